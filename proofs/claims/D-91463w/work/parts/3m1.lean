set_option maxRecDepth 100000
/-! OldWeatherModel.widthsBy(IIII)I -/
def fX7_widthsBy_L172 (x1 : Int32) (x5 : Int32)  (rec172 : (Int32 × Sg) → Option (Int32 × Sg)) (s : Int32 × Sg) : Option (Int32 × Sg) :=
  match s with
  | (x6, σ) => if (gi σ 61 5) ≤ x6 then some (x5, σ) else if inb ((21588 + (5 * x6)) + 4) 39698 then rec172 ((x6 + 1), (wi (wi σ 60 78 ((gi σ 60 78) + (((x1 >>> (x6 &&& 31)) &&& 1) * (gi σ 61 ((21588 + (5 * x6)) + 4).toNatClampNeg)))) 60 79 ((gi σ 60 79) + ((x1 >>> (x6 &&& 31)) &&& 1)))) else none
set_option maxHeartbeats 1500000 in
theorem fX7_widthsBy_L172_ok (x1 : Int32) (x5 : Int32)   : ∀ (n : Nat) (x6 : Int32) (σ : Sg) (r : (Int32 × Sg)), lp (fX7_widthsBy_L172 x1 x5 ) n (x6, σ) = some r → Go true 1 iX7_widthsBy (172, [some (.ref 60), some (.int x1), none, none, none, some (.int x5), some (.int x6), none, none, none, none], [], σ) (.inl (some (.int (r).1)), (r).2) := by
  intro n
  induction n with
  | zero => intro x6 σ r hf; cases hf
  | succ n ih =>
    intro x6 σ r hf
    have hf : fX7_widthsBy_L172 x1 x5  (lp (fX7_widthsBy_L172 x1 x5 ) n) (x6, σ) = some r := hf
    have hrec172 := ih
    generalize lp (fX7_widthsBy_L172 x1 x5 ) n = rec172 at hf hrec172
    unfold fX7_widthsBy_L172 at hf
    dsimp only at hf
    refine go_n 5 (f := (180, [some (.ref 60), some (.int x1), none, none, none, some (.int x5), some (.int x6), none, none, none, none], [.int (gi σ 61 5), .int x6], σ)) rfl ?_
    by_cases h2 : (gi σ 61 5) ≤ x6
    · rw [if_pos h2] at hf
      refine go_it (t := 235) (f := 183) (L1 := [some (.ref 60), some (.int x1), none, none, none, some (.int x5), some (.int x6), none, none, none, none]) (st1 := []) (σ1 := σ) rfl h2 ?_
      refine go_n 1 (f := (237, [some (.ref 60), some (.int x1), none, none, none, some (.int x5), some (.int x6), none, none, none, none], [.int x5], σ)) rfl ?_
      cases hf
      exact go_r rfl
    · rw [if_neg h2] at hf
      refine go_if (t := 235) (f := 183) (L1 := [some (.ref 60), some (.int x1), none, none, none, some (.int x5), some (.int x6), none, none, none, none]) (st1 := []) (σ1 := σ) rfl h2 ?_
      refine go_n 10 (f := (198, [some (.ref 60), some (.int x1), none, none, none, some (.int x5), some (.int x6), none, none, none, none], [.ref 61, .int ((x1 >>> (x6 &&& 31)) &&& 1), .int (gi σ 60 78), .ref 60], σ)) rfl ?_
      refine go_n 7 (f := (208, [some (.ref 60), some (.int x1), none, none, none, some (.int x5), some (.int x6), none, none, none, none], [.int ((21588 + (5 * x6)) + 4), .ref 61, .int ((x1 >>> (x6 &&& 31)) &&& 1), .int (gi σ 60 78), .ref 60], σ)) rfl ?_
      obtain ⟨h3, hf⟩ := grd hf
      refine go_iald rfl rfl rfl h3 ?_
      refine go_n 10 (f := (224, [some (.ref 60), some (.int x1), none, none, none, some (.int x5), some (.int x6), none, none, none, none], [.int 1, .int (x1 >>> (x6 &&& 31)), .int (gi σ 60 79), .ref 60], (wi σ 60 78 ((gi σ 60 78) + (((x1 >>> (x6 &&& 31)) &&& 1) * (gi σ 61 ((21588 + (5 * x6)) + 4).toNatClampNeg)))))) rfl ?_
      refine go_n 4 (f := (232, [some (.ref 60), some (.int x1), none, none, none, some (.int x5), some (.int (x6 + 1)), none, none, none, none], [], (wi (wi σ 60 78 ((gi σ 60 78) + (((x1 >>> (x6 &&& 31)) &&& 1) * (gi σ 61 ((21588 + (5 * x6)) + 4).toNatClampNeg)))) 60 79 ((gi σ 60 79) + ((x1 >>> (x6 &&& 31)) &&& 1))))) rfl ?_
      refine go_n 1 (f := (172, [some (.ref 60), some (.int x1), none, none, none, some (.int x5), some (.int (x6 + 1)), none, none, none, none], [], (wi (wi σ 60 78 ((gi σ 60 78) + (((x1 >>> (x6 &&& 31)) &&& 1) * (gi σ 61 ((21588 + (5 * x6)) + 4).toNatClampNeg)))) 60 79 ((gi σ 60 79) + ((x1 >>> (x6 &&& 31)) &&& 1))))) rfl ?_
      exact hrec172 _ _ _ hf
def fX7_widthsBy_J138 (x1 : Int32) (x2 : Int32) (x3 : Int32) (x4 : Int32) (x5 : Int32) (x6 : Int32) (x8 : Int32) (s0 : Int32) (rec6 : (Int32 × Int32) → Option (Int32 × Sg)) (rec27 : (Int32 × Int32) → Option (Int32 × Sg)) (σ : Sg) : Option (Int32 × Sg) :=
  rec27 (s0, (x8 + 1))
set_option maxHeartbeats 1500000 in
theorem fX7_widthsBy_J138_ok (x1 : Int32) (x2 : Int32) (x3 : Int32) (x4 : Int32) (x5 : Int32) (x6 : Int32) (x8 : Int32) (s0 : Int32) (rec6 : (Int32 × Int32) → Option (Int32 × Sg)) (rec27 : (Int32 × Int32) → Option (Int32 × Sg)) (σ : Sg) (hrec6 : ∀ (y5 : Int32) (y6 : Int32) (r : (Int32 × Sg)), rec6 (y5, y6) = some r → Go true 1 iX7_widthsBy (6, [some (.ref 60), some (.int x1), some (.int x2), some (.int x3), some (.int x4), some (.int y5), some (.int y6), none, none, none, none], [], σ) (.inl (some (.int (r).1)), (r).2)) (hrec27 : ∀ (y7 : Int32) (y8 : Int32) (r : (Int32 × Sg)), rec27 (y7, y8) = some r → Go true 1 iX7_widthsBy (27, [some (.ref 60), some (.int x1), some (.int x2), some (.int x3), some (.int x4), some (.int x5), some (.int x6), some (.int y7), some (.int y8), none, none], [], σ) (.inl (some (.int (r).1)), (r).2)) (r : (Int32 × Sg)) (hf : fX7_widthsBy_J138 x1 x2 x3 x4 x5 x6 x8 s0 rec6 rec27 σ = some r) : Go true 1 iX7_widthsBy (138, [some (.ref 60), some (.int x1), some (.int x2), some (.int x3), some (.int x4), some (.int x5), some (.int x6), none, some (.int x8), none, none], [.int s0], σ) (.inl (some (.int (r).1)), (r).2) := by
  unfold fX7_widthsBy_J138 at hf
  refine go_n 2 (f := (143, [some (.ref 60), some (.int x1), some (.int x2), some (.int x3), some (.int x4), some (.int x5), some (.int x6), some (.int s0), some (.int (x8 + 1)), none, none], [], σ)) rfl ?_
  refine go_n 1 (f := (27, [some (.ref 60), some (.int x1), some (.int x2), some (.int x3), some (.int x4), some (.int x5), some (.int x6), some (.int s0), some (.int (x8 + 1)), none, none], [], σ)) rfl ?_
  exact hrec27 _ _ _ hf
def fX7_widthsBy_J136 (x1 : Int32) (x2 : Int32) (x3 : Int32) (x4 : Int32) (x5 : Int32) (x6 : Int32) (x7 : Int32) (x8 : Int32) (rec6 : (Int32 × Int32) → Option (Int32 × Sg)) (rec27 : (Int32 × Int32) → Option (Int32 × Sg)) (σ : Sg) : Option (Int32 × Sg) :=
  fX7_widthsBy_J138 x1 x2 x3 x4 x5 x6 x8 x7 rec6 rec27 σ
set_option maxHeartbeats 1500000 in
theorem fX7_widthsBy_J136_ok (x1 : Int32) (x2 : Int32) (x3 : Int32) (x4 : Int32) (x5 : Int32) (x6 : Int32) (x7 : Int32) (x8 : Int32) (rec6 : (Int32 × Int32) → Option (Int32 × Sg)) (rec27 : (Int32 × Int32) → Option (Int32 × Sg)) (σ : Sg) (hrec6 : ∀ (y5 : Int32) (y6 : Int32) (r : (Int32 × Sg)), rec6 (y5, y6) = some r → Go true 1 iX7_widthsBy (6, [some (.ref 60), some (.int x1), some (.int x2), some (.int x3), some (.int x4), some (.int y5), some (.int y6), none, none, none, none], [], σ) (.inl (some (.int (r).1)), (r).2)) (hrec27 : ∀ (y7 : Int32) (y8 : Int32) (r : (Int32 × Sg)), rec27 (y7, y8) = some r → Go true 1 iX7_widthsBy (27, [some (.ref 60), some (.int x1), some (.int x2), some (.int x3), some (.int x4), some (.int x5), some (.int x6), some (.int y7), some (.int y8), none, none], [], σ) (.inl (some (.int (r).1)), (r).2)) (r : (Int32 × Sg)) (hf : fX7_widthsBy_J136 x1 x2 x3 x4 x5 x6 x7 x8 rec6 rec27 σ = some r) : Go true 1 iX7_widthsBy (136, [some (.ref 60), some (.int x1), some (.int x2), some (.int x3), some (.int x4), some (.int x5), some (.int x6), some (.int x7), some (.int x8), none, none], [], σ) (.inl (some (.int (r).1)), (r).2) := by
  unfold fX7_widthsBy_J136 at hf
  refine go_n 1 (f := (138, [some (.ref 60), some (.int x1), some (.int x2), some (.int x3), some (.int x4), some (.int x5), some (.int x6), some (.int x7), some (.int x8), none, none], [.int x7], σ)) rfl ?_
  refine go_e (L1 := [some (.ref 60), some (.int x1), some (.int x2), some (.int x3), some (.int x4), some (.int x5), some (.int x6), none, some (.int x8), none, none]) rfl rfl ?_
  exact fX7_widthsBy_J138_ok _ _ _ _ _ _ _ _ _ _ _ hrec6 hrec27 _ hf
def fX7_widthsBy_J103 (x1 : Int32) (x2 : Int32) (x3 : Int32) (x4 : Int32) (x5 : Int32) (x6 : Int32) (x7 : Int32) (x8 : Int32) (x9 : Int32) (s0 : Int32) (rec6 : (Int32 × Int32) → Option (Int32 × Sg)) (rec27 : (Int32 × Int32) → Option (Int32 × Sg)) (σ : Sg) : Option (Int32 × Sg) :=
  if s0 = 0 then fX7_widthsBy_J136 x1 x2 x3 x4 x5 x6 x7 x8 rec6 rec27 σ else if inb (x9 + 3) 39698 then if x7 ≤ (gi σ 61 (x9 + 3).toNatClampNeg) then fX7_widthsBy_J136 x1 x2 x3 x4 x5 x6 x7 x8 rec6 rec27 σ else if inb (x9 + 3) 39698 then fX7_widthsBy_J138 x1 x2 x3 x4 x5 x6 x8 (gi σ 61 (x9 + 3).toNatClampNeg) rec6 rec27 σ else none else none
set_option maxHeartbeats 1500000 in
theorem fX7_widthsBy_J103_ok (x1 : Int32) (x2 : Int32) (x3 : Int32) (x4 : Int32) (x5 : Int32) (x6 : Int32) (x7 : Int32) (x8 : Int32) (x9 : Int32) (s0 : Int32) (rec6 : (Int32 × Int32) → Option (Int32 × Sg)) (rec27 : (Int32 × Int32) → Option (Int32 × Sg)) (σ : Sg) (hrec6 : ∀ (y5 : Int32) (y6 : Int32) (r : (Int32 × Sg)), rec6 (y5, y6) = some r → Go true 1 iX7_widthsBy (6, [some (.ref 60), some (.int x1), some (.int x2), some (.int x3), some (.int x4), some (.int y5), some (.int y6), none, none, none, none], [], σ) (.inl (some (.int (r).1)), (r).2)) (hrec27 : ∀ (y7 : Int32) (y8 : Int32) (r : (Int32 × Sg)), rec27 (y7, y8) = some r → Go true 1 iX7_widthsBy (27, [some (.ref 60), some (.int x1), some (.int x2), some (.int x3), some (.int x4), some (.int x5), some (.int x6), some (.int y7), some (.int y8), none, none], [], σ) (.inl (some (.int (r).1)), (r).2)) (r : (Int32 × Sg)) (hf : fX7_widthsBy_J103 x1 x2 x3 x4 x5 x6 x7 x8 x9 s0 rec6 rec27 σ = some r) : Go true 1 iX7_widthsBy (103, [some (.ref 60), some (.int x1), some (.int x2), some (.int x3), some (.int x4), some (.int x5), some (.int x6), some (.int x7), some (.int x8), some (.int x9), none], [.int s0], σ) (.inl (some (.int (r).1)), (r).2) := by
  unfold fX7_widthsBy_J103 at hf
  refine go_n 2 (f := (107, [some (.ref 60), some (.int x1), some (.int x2), some (.int x3), some (.int x4), some (.int x5), some (.int x6), some (.int x7), some (.int x8), some (.int x9), some (.int s0)], [.int s0], σ)) rfl ?_
  by_cases h7 : s0 = 0
  · rw [if_pos h7] at hf
    refine go_it (t := 136) (f := 110) (L1 := [some (.ref 60), some (.int x1), some (.int x2), some (.int x3), some (.int x4), some (.int x5), some (.int x6), some (.int x7), some (.int x8), some (.int x9), some (.int s0)]) (st1 := []) (σ1 := σ) rfl h7 ?_
    refine go_e (L1 := [some (.ref 60), some (.int x1), some (.int x2), some (.int x3), some (.int x4), some (.int x5), some (.int x6), some (.int x7), some (.int x8), none, none]) rfl rfl ?_
    exact fX7_widthsBy_J136_ok _ _ _ _ _ _ _ _ _ _ _ hrec6 hrec27 _ hf
  · rw [if_neg h7] at hf
    refine go_if (t := 136) (f := 110) (L1 := [some (.ref 60), some (.int x1), some (.int x2), some (.int x3), some (.int x4), some (.int x5), some (.int x6), some (.int x7), some (.int x8), some (.int x9), some (.int s0)]) (st1 := []) (σ1 := σ) rfl h7 ?_
    refine go_n 5 (f := (118, [some (.ref 60), some (.int x1), some (.int x2), some (.int x3), some (.int x4), some (.int x5), some (.int x6), some (.int x7), some (.int x8), some (.int x9), some (.int s0)], [.int (x9 + 3), .ref 61], σ)) rfl ?_
    obtain ⟨h8, hf⟩ := grd hf
    refine go_iald rfl rfl rfl h8 ?_
    refine go_n 1 (f := (121, [some (.ref 60), some (.int x1), some (.int x2), some (.int x3), some (.int x4), some (.int x5), some (.int x6), some (.int x7), some (.int x8), some (.int x9), some (.int s0)], [.int x7, .int (gi σ 61 (x9 + 3).toNatClampNeg)], σ)) rfl ?_
    by_cases h9 : x7 ≤ (gi σ 61 (x9 + 3).toNatClampNeg)
    · rw [if_pos h9] at hf
      refine go_it (t := 136) (f := 124) (L1 := [some (.ref 60), some (.int x1), some (.int x2), some (.int x3), some (.int x4), some (.int x5), some (.int x6), some (.int x7), some (.int x8), some (.int x9), some (.int s0)]) (st1 := []) (σ1 := σ) rfl h9 ?_
      refine go_e (L1 := [some (.ref 60), some (.int x1), some (.int x2), some (.int x3), some (.int x4), some (.int x5), some (.int x6), some (.int x7), some (.int x8), none, none]) rfl rfl ?_
      exact fX7_widthsBy_J136_ok _ _ _ _ _ _ _ _ _ _ _ hrec6 hrec27 _ hf
    · rw [if_neg h9] at hf
      refine go_if (t := 136) (f := 124) (L1 := [some (.ref 60), some (.int x1), some (.int x2), some (.int x3), some (.int x4), some (.int x5), some (.int x6), some (.int x7), some (.int x8), some (.int x9), some (.int s0)]) (st1 := []) (σ1 := σ) rfl h9 ?_
      refine go_n 5 (f := (132, [some (.ref 60), some (.int x1), some (.int x2), some (.int x3), some (.int x4), some (.int x5), some (.int x6), some (.int x7), some (.int x8), some (.int x9), some (.int s0)], [.int (x9 + 3), .ref 61], σ)) rfl ?_
      obtain ⟨h10, hf⟩ := grd hf
      refine go_iald rfl rfl rfl h10 ?_
      refine go_n 1 (f := (138, [some (.ref 60), some (.int x1), some (.int x2), some (.int x3), some (.int x4), some (.int x5), some (.int x6), some (.int x7), some (.int x8), some (.int x9), some (.int s0)], [.int (gi σ 61 (x9 + 3).toNatClampNeg)], σ)) rfl ?_
      refine go_e (L1 := [some (.ref 60), some (.int x1), some (.int x2), some (.int x3), some (.int x4), some (.int x5), some (.int x6), none, some (.int x8), none, none]) rfl rfl ?_
      exact fX7_widthsBy_J138_ok _ _ _ _ _ _ _ _ _ _ _ hrec6 hrec27 _ hf
def fX7_widthsBy_J102 (x1 : Int32) (x2 : Int32) (x3 : Int32) (x4 : Int32) (x5 : Int32) (x6 : Int32) (x7 : Int32) (x8 : Int32) (x9 : Int32) (rec6 : (Int32 × Int32) → Option (Int32 × Sg)) (rec27 : (Int32 × Int32) → Option (Int32 × Sg)) (σ : Sg) : Option (Int32 × Sg) :=
  fX7_widthsBy_J103 x1 x2 x3 x4 x5 x6 x7 x8 x9 0 rec6 rec27 σ
set_option maxHeartbeats 1500000 in
theorem fX7_widthsBy_J102_ok (x1 : Int32) (x2 : Int32) (x3 : Int32) (x4 : Int32) (x5 : Int32) (x6 : Int32) (x7 : Int32) (x8 : Int32) (x9 : Int32) (rec6 : (Int32 × Int32) → Option (Int32 × Sg)) (rec27 : (Int32 × Int32) → Option (Int32 × Sg)) (σ : Sg) (hrec6 : ∀ (y5 : Int32) (y6 : Int32) (r : (Int32 × Sg)), rec6 (y5, y6) = some r → Go true 1 iX7_widthsBy (6, [some (.ref 60), some (.int x1), some (.int x2), some (.int x3), some (.int x4), some (.int y5), some (.int y6), none, none, none, none], [], σ) (.inl (some (.int (r).1)), (r).2)) (hrec27 : ∀ (y7 : Int32) (y8 : Int32) (r : (Int32 × Sg)), rec27 (y7, y8) = some r → Go true 1 iX7_widthsBy (27, [some (.ref 60), some (.int x1), some (.int x2), some (.int x3), some (.int x4), some (.int x5), some (.int x6), some (.int y7), some (.int y8), none, none], [], σ) (.inl (some (.int (r).1)), (r).2)) (r : (Int32 × Sg)) (hf : fX7_widthsBy_J102 x1 x2 x3 x4 x5 x6 x7 x8 x9 rec6 rec27 σ = some r) : Go true 1 iX7_widthsBy (102, [some (.ref 60), some (.int x1), some (.int x2), some (.int x3), some (.int x4), some (.int x5), some (.int x6), some (.int x7), some (.int x8), some (.int x9), none], [], σ) (.inl (some (.int (r).1)), (r).2) := by
  unfold fX7_widthsBy_J102 at hf
  refine go_n 1 (f := (103, [some (.ref 60), some (.int x1), some (.int x2), some (.int x3), some (.int x4), some (.int x5), some (.int x6), some (.int x7), some (.int x8), some (.int x9), none], [.int 0], σ)) rfl ?_
  exact fX7_widthsBy_J103_ok _ _ _ _ _ _ _ _ _ _ _ _ _ hrec6 hrec27 _ hf
def fX7_widthsBy_L27 (x1 : Int32) (x2 : Int32) (x3 : Int32) (x4 : Int32) (x5 : Int32) (x6 : Int32) (σ : Sg) (rec6 : (Int32 × Int32) → Option (Int32 × Sg)) (rec27 : (Int32 × Int32) → Option (Int32 × Sg)) (s : Int32 × Int32) : Option (Int32 × Sg) :=
  match s with
  | (x7, x8) => if (gi σ 61 5) ≤ x8 then rec6 ((x5 + x7), (x6 + 1)) else if ((x1 >>> (x8 &&& 31)) &&& 1) ≠ 1 then fX7_widthsBy_J102 x1 x2 x3 x4 x5 x6 x7 x8 (21588 + (5 * x8)) rec6 rec27 σ else if inb (21588 + (5 * x8)) 39698 then if (gi σ 61 (21588 + (5 * x8)).toNatClampNeg) ≠ x2 then fX7_widthsBy_J102 x1 x2 x3 x4 x5 x6 x7 x8 (21588 + (5 * x8)) rec6 rec27 σ else if inb ((21588 + (5 * x8)) + 1) 39698 then if inb ((21588 + (5 * x8)) + 2) 39698 then (fX7_in x6.toInt64 (gi σ 61 ((21588 + (5 * x8)) + 1).toNatClampNeg).toInt64 (gi σ 61 ((21588 + (5 * x8)) + 2).toNatClampNeg).toInt64).bind fun q15 => ((fun (z18 : Int32) => if z18 = 0 then fX7_widthsBy_J136 x1 x2 x3 x4 x5 x6 x7 x8 rec6 rec27 σ else if inb ((21588 + (5 * x8)) + 3) 39698 then if x7 ≤ (gi σ 61 ((21588 + (5 * x8)) + 3).toNatClampNeg) then fX7_widthsBy_J136 x1 x2 x3 x4 x5 x6 x7 x8 rec6 rec27 σ else if inb ((21588 + (5 * x8)) + 3) 39698 then fX7_widthsBy_J138 x1 x2 x3 x4 x5 x6 x8 (gi σ 61 ((21588 + (5 * x8)) + 3).toNatClampNeg) rec6 rec27 σ else none else none) ((if q15 = 0 then 0 else 1) : Int32)) else none else none else none
set_option maxHeartbeats 1500000 in
theorem fX7_widthsBy_L27_ok (x1 : Int32) (x2 : Int32) (x3 : Int32) (x4 : Int32) (x5 : Int32) (x6 : Int32) (σ : Sg) (rec6 : (Int32 × Int32) → Option (Int32 × Sg)) (hrec6 : ∀ (y5 : Int32) (y6 : Int32) (r : (Int32 × Sg)), rec6 (y5, y6) = some r → Go true 1 iX7_widthsBy (6, [some (.ref 60), some (.int x1), some (.int x2), some (.int x3), some (.int x4), some (.int y5), some (.int y6), none, none, none, none], [], σ) (.inl (some (.int (r).1)), (r).2)) : ∀ (n : Nat) (x7 : Int32) (x8 : Int32) (r : (Int32 × Sg)), lp (fX7_widthsBy_L27 x1 x2 x3 x4 x5 x6 σ rec6) n (x7, x8) = some r → Go true 1 iX7_widthsBy (27, [some (.ref 60), some (.int x1), some (.int x2), some (.int x3), some (.int x4), some (.int x5), some (.int x6), some (.int x7), some (.int x8), none, none], [], σ) (.inl (some (.int (r).1)), (r).2) := by
  intro n
  induction n with
  | zero => intro x7 x8 r hf; cases hf
  | succ n ih =>
    intro x7 x8 r hf
    have hf : fX7_widthsBy_L27 x1 x2 x3 x4 x5 x6 σ rec6 (lp (fX7_widthsBy_L27 x1 x2 x3 x4 x5 x6 σ rec6) n) (x7, x8) = some r := hf
    have hrec27 := ih
    generalize lp (fX7_widthsBy_L27 x1 x2 x3 x4 x5 x6 σ rec6) n = rec27 at hf hrec27
    unfold fX7_widthsBy_L27 at hf
    dsimp only at hf
    refine go_n 5 (f := (35, [some (.ref 60), some (.int x1), some (.int x2), some (.int x3), some (.int x4), some (.int x5), some (.int x6), some (.int x7), some (.int x8), none, none], [.int (gi σ 61 5), .int x8], σ)) rfl ?_
    by_cases h5 : (gi σ 61 5) ≤ x8
    · rw [if_pos h5] at hf
      refine go_it (t := 146) (f := 38) (L1 := [some (.ref 60), some (.int x1), some (.int x2), some (.int x3), some (.int x4), some (.int x5), some (.int x6), some (.int x7), some (.int x8), none, none]) (st1 := []) (σ1 := σ) rfl h5 ?_
      refine go_n 5 (f := (156, [some (.ref 60), some (.int x1), some (.int x2), some (.int x3), some (.int x4), some (.int (x5 + x7)), some (.int (x6 + 1)), some (.int x7), some (.int x8), none, none], [], σ)) rfl ?_
      refine go_n 1 (f := (6, [some (.ref 60), some (.int x1), some (.int x2), some (.int x3), some (.int x4), some (.int (x5 + x7)), some (.int (x6 + 1)), some (.int x7), some (.int x8), none, none], [], σ)) rfl ?_
      refine go_e (L1 := [some (.ref 60), some (.int x1), some (.int x2), some (.int x3), some (.int x4), some (.int (x5 + x7)), some (.int (x6 + 1)), none, none, none, none]) rfl rfl ?_
      exact hrec6 _ _ _ hf
    · rw [if_neg h5] at hf
      refine go_if (t := 146) (f := 38) (L1 := [some (.ref 60), some (.int x1), some (.int x2), some (.int x3), some (.int x4), some (.int x5), some (.int x6), some (.int x7), some (.int x8), none, none]) (st1 := []) (σ1 := σ) rfl h5 ?_
      refine go_n 10 (f := (53, [some (.ref 60), some (.int x1), some (.int x2), some (.int x3), some (.int x4), some (.int x5), some (.int x6), some (.int x7), some (.int x8), some (.int (21588 + (5 * x8))), none], [.int 1, .int (x1 >>> (x8 &&& 31))], σ)) rfl ?_
      refine go_n 2 (f := (55, [some (.ref 60), some (.int x1), some (.int x2), some (.int x3), some (.int x4), some (.int x5), some (.int x6), some (.int x7), some (.int x8), some (.int (21588 + (5 * x8))), none], [.int 1, .int ((x1 >>> (x8 &&& 31)) &&& 1)], σ)) rfl ?_
      by_cases h6 : ((x1 >>> (x8 &&& 31)) &&& 1) ≠ 1
      · rw [if_pos h6] at hf
        refine go_it (t := 102) (f := 58) (L1 := [some (.ref 60), some (.int x1), some (.int x2), some (.int x3), some (.int x4), some (.int x5), some (.int x6), some (.int x7), some (.int x8), some (.int (21588 + (5 * x8))), none]) (st1 := []) (σ1 := σ) rfl h6 ?_
        exact fX7_widthsBy_J102_ok _ _ _ _ _ _ _ _ _ _ _ _ hrec6 hrec27 _ hf
      · rw [if_neg h6] at hf
        refine go_if (t := 102) (f := 58) (L1 := [some (.ref 60), some (.int x1), some (.int x2), some (.int x3), some (.int x4), some (.int x5), some (.int x6), some (.int x7), some (.int x8), some (.int (21588 + (5 * x8))), none]) (st1 := []) (σ1 := σ) rfl h6 ?_
        refine go_n 3 (f := (64, [some (.ref 60), some (.int x1), some (.int x2), some (.int x3), some (.int x4), some (.int x5), some (.int x6), some (.int x7), some (.int x8), some (.int (21588 + (5 * x8))), none], [.int (21588 + (5 * x8)), .ref 61], σ)) rfl ?_
        obtain ⟨h11, hf⟩ := grd hf
        refine go_iald rfl rfl rfl h11 ?_
        refine go_n 1 (f := (66, [some (.ref 60), some (.int x1), some (.int x2), some (.int x3), some (.int x4), some (.int x5), some (.int x6), some (.int x7), some (.int x8), some (.int (21588 + (5 * x8))), none], [.int x2, .int (gi σ 61 (21588 + (5 * x8)).toNatClampNeg)], σ)) rfl ?_
        by_cases h12 : (gi σ 61 (21588 + (5 * x8)).toNatClampNeg) ≠ x2
        · rw [if_pos h12] at hf
          refine go_it (t := 102) (f := 69) (L1 := [some (.ref 60), some (.int x1), some (.int x2), some (.int x3), some (.int x4), some (.int x5), some (.int x6), some (.int x7), some (.int x8), some (.int (21588 + (5 * x8))), none]) (st1 := []) (σ1 := σ) rfl h12 ?_
          exact fX7_widthsBy_J102_ok _ _ _ _ _ _ _ _ _ _ _ _ hrec6 hrec27 _ hf
        · rw [if_neg h12] at hf
          refine go_if (t := 102) (f := 69) (L1 := [some (.ref 60), some (.int x1), some (.int x2), some (.int x3), some (.int x4), some (.int x5), some (.int x6), some (.int x7), some (.int x8), some (.int (21588 + (5 * x8))), none]) (st1 := []) (σ1 := σ) rfl h12 ?_
          refine go_n 7 (f := (80, [some (.ref 60), some (.int x1), some (.int x2), some (.int x3), some (.int x4), some (.int x5), some (.int x6), some (.int x7), some (.int x8), some (.int (21588 + (5 * x8))), none], [.int ((21588 + (5 * x8)) + 1), .ref 61, .long x6.toInt64], σ)) rfl ?_
          obtain ⟨h13, hf⟩ := grd hf
          refine go_iald rfl rfl rfl h13 ?_
          refine go_n 6 (f := (90, [some (.ref 60), some (.int x1), some (.int x2), some (.int x3), some (.int x4), some (.int x5), some (.int x6), some (.int x7), some (.int x8), some (.int (21588 + (5 * x8))), none], [.int ((21588 + (5 * x8)) + 2), .ref 61, .long (gi σ 61 ((21588 + (5 * x8)) + 1).toNatClampNeg).toInt64, .long x6.toInt64], σ)) rfl ?_
          obtain ⟨h14, hf⟩ := grd hf
          refine go_iald rfl rfl rfl h14 ?_
          refine go_n 1 (f := (92, [some (.ref 60), some (.int x1), some (.int x2), some (.int x3), some (.int x4), some (.int x5), some (.int x6), some (.int x7), some (.int x8), some (.int (21588 + (5 * x8))), none], [.long (gi σ 61 ((21588 + (5 * x8)) + 2).toNatClampNeg).toInt64, .long (gi σ 61 ((21588 + (5 * x8)) + 1).toNatClampNeg).toInt64, .long x6.toInt64], σ)) rfl ?_
          obtain ⟨q15, h16, hf⟩ := bnd hf
          refine go_c (mid := 12034) (args := [.long x6.toInt64, .long (gi σ 61 ((21588 + (5 * x8)) + 1).toNatClampNeg).toInt64, .long (gi σ 61 ((21588 + (5 * x8)) + 2).toNatClampNeg).toInt64]) (pc := 95) (L := [some (.ref 60), some (.int x1), some (.int x2), some (.int x3), some (.int x4), some (.int x5), some (.int x6), some (.int x7), some (.int x8), some (.int (21588 + (5 * x8))), none]) (st := []) (σ := σ) rfl ((fX7_in_ok _ _ _ _ q15 h16).deep (Nat.le_of_ble_eq_true rfl)) ?_
          refine go_m (f := (103, [some (.ref 60), some (.int x1), some (.int x2), some (.int x3), some (.int x4), some (.int x5), some (.int x6), some (.int x7), some (.int x8), some (.int (21588 + (5 * x8))), none], [.int ((if q15 = 0 then 0 else 1) : Int32)], σ)) ?_ (fun hJ23 => ?_)
          · generalize hz18 : ((if q15 = 0 then 0 else 1) : Int32) = z18 at hf ⊢
            have oz18 : am_ok 3 z18 = true := hz18 ▸ (okb rfl rfl)
            try dsimp only at hf
            refine go_n 2 (f := (107, [some (.ref 60), some (.int x1), some (.int x2), some (.int x3), some (.int x4), some (.int x5), some (.int x6), some (.int x7), some (.int x8), some (.int (21588 + (5 * x8))), some (.int z18)], [.int z18], σ)) rfl ?_
            by_cases h19 : z18 = 0
            · rw [if_pos h19] at hf
              refine go_it (t := 136) (f := 110) (L1 := [some (.ref 60), some (.int x1), some (.int x2), some (.int x3), some (.int x4), some (.int x5), some (.int x6), some (.int x7), some (.int x8), some (.int (21588 + (5 * x8))), some (.int z18)]) (st1 := []) (σ1 := σ) rfl h19 ?_
              refine go_e (L1 := [some (.ref 60), some (.int x1), some (.int x2), some (.int x3), some (.int x4), some (.int x5), some (.int x6), some (.int x7), some (.int x8), none, none]) rfl rfl ?_
              exact fX7_widthsBy_J136_ok _ _ _ _ _ _ _ _ _ _ _ hrec6 hrec27 _ hf
            · rw [if_neg h19] at hf
              refine go_if (t := 136) (f := 110) (L1 := [some (.ref 60), some (.int x1), some (.int x2), some (.int x3), some (.int x4), some (.int x5), some (.int x6), some (.int x7), some (.int x8), some (.int (21588 + (5 * x8))), some (.int z18)]) (st1 := []) (σ1 := σ) rfl h19 ?_
              refine go_n 5 (f := (118, [some (.ref 60), some (.int x1), some (.int x2), some (.int x3), some (.int x4), some (.int x5), some (.int x6), some (.int x7), some (.int x8), some (.int (21588 + (5 * x8))), some (.int z18)], [.int ((21588 + (5 * x8)) + 3), .ref 61], σ)) rfl ?_
              obtain ⟨h20, hf⟩ := grd hf
              refine go_iald rfl rfl rfl h20 ?_
              refine go_n 1 (f := (121, [some (.ref 60), some (.int x1), some (.int x2), some (.int x3), some (.int x4), some (.int x5), some (.int x6), some (.int x7), some (.int x8), some (.int (21588 + (5 * x8))), some (.int z18)], [.int x7, .int (gi σ 61 ((21588 + (5 * x8)) + 3).toNatClampNeg)], σ)) rfl ?_
              by_cases h21 : x7 ≤ (gi σ 61 ((21588 + (5 * x8)) + 3).toNatClampNeg)
              · rw [if_pos h21] at hf
                refine go_it (t := 136) (f := 124) (L1 := [some (.ref 60), some (.int x1), some (.int x2), some (.int x3), some (.int x4), some (.int x5), some (.int x6), some (.int x7), some (.int x8), some (.int (21588 + (5 * x8))), some (.int z18)]) (st1 := []) (σ1 := σ) rfl h21 ?_
                refine go_e (L1 := [some (.ref 60), some (.int x1), some (.int x2), some (.int x3), some (.int x4), some (.int x5), some (.int x6), some (.int x7), some (.int x8), none, none]) rfl rfl ?_
                exact fX7_widthsBy_J136_ok _ _ _ _ _ _ _ _ _ _ _ hrec6 hrec27 _ hf
              · rw [if_neg h21] at hf
                refine go_if (t := 136) (f := 124) (L1 := [some (.ref 60), some (.int x1), some (.int x2), some (.int x3), some (.int x4), some (.int x5), some (.int x6), some (.int x7), some (.int x8), some (.int (21588 + (5 * x8))), some (.int z18)]) (st1 := []) (σ1 := σ) rfl h21 ?_
                refine go_n 5 (f := (132, [some (.ref 60), some (.int x1), some (.int x2), some (.int x3), some (.int x4), some (.int x5), some (.int x6), some (.int x7), some (.int x8), some (.int (21588 + (5 * x8))), some (.int z18)], [.int ((21588 + (5 * x8)) + 3), .ref 61], σ)) rfl ?_
                obtain ⟨h22, hf⟩ := grd hf
                refine go_iald rfl rfl rfl h22 ?_
                refine go_n 1 (f := (138, [some (.ref 60), some (.int x1), some (.int x2), some (.int x3), some (.int x4), some (.int x5), some (.int x6), some (.int x7), some (.int x8), some (.int (21588 + (5 * x8))), some (.int z18)], [.int (gi σ 61 ((21588 + (5 * x8)) + 3).toNatClampNeg)], σ)) rfl ?_
                refine go_e (L1 := [some (.ref 60), some (.int x1), some (.int x2), some (.int x3), some (.int x4), some (.int x5), some (.int x6), none, some (.int x8), none, none]) rfl rfl ?_
                exact fX7_widthsBy_J138_ok _ _ _ _ _ _ _ _ _ _ _ hrec6 hrec27 _ hf
          · by_cases h17 : q15 = 0
            · refine go_it (t := 102) (f := 98) (L1 := [some (.ref 60), some (.int x1), some (.int x2), some (.int x3), some (.int x4), some (.int x5), some (.int x6), some (.int x7), some (.int x8), some (.int (21588 + (5 * x8))), none]) (st1 := []) (σ1 := σ) rfl h17 ?_
              refine go_n 1 (f := (103, [some (.ref 60), some (.int x1), some (.int x2), some (.int x3), some (.int x4), some (.int x5), some (.int x6), some (.int x7), some (.int x8), some (.int (21588 + (5 * x8))), none], [.int 0], σ)) rfl ?_
              refine go_e (L1 := [some (.ref 60), some (.int x1), some (.int x2), some (.int x3), some (.int x4), some (.int x5), some (.int x6), some (.int x7), some (.int x8), some (.int (21588 + (5 * x8))), none]) rfl rfl ?_
              simp only [if_pos h17] at hJ23
              first | exact hJ23 | (simp only [if_pos h17]; exact hJ23)
            · refine go_if (t := 102) (f := 98) (L1 := [some (.ref 60), some (.int x1), some (.int x2), some (.int x3), some (.int x4), some (.int x5), some (.int x6), some (.int x7), some (.int x8), some (.int (21588 + (5 * x8))), none]) (st1 := []) (σ1 := σ) rfl h17 ?_
              refine go_n 2 (f := (103, [some (.ref 60), some (.int x1), some (.int x2), some (.int x3), some (.int x4), some (.int x5), some (.int x6), some (.int x7), some (.int x8), some (.int (21588 + (5 * x8))), none], [.int 1], σ)) rfl ?_
              refine go_e (L1 := [some (.ref 60), some (.int x1), some (.int x2), some (.int x3), some (.int x4), some (.int x5), some (.int x6), some (.int x7), some (.int x8), some (.int (21588 + (5 * x8))), none]) rfl rfl ?_
              simp only [if_neg h17] at hJ23
              first | exact hJ23 | (simp only [if_neg h17]; exact hJ23)
def fX7_widthsBy_L6 (x1 : Int32) (x2 : Int32) (x3 : Int32) (x4 : Int32) (σ : Sg)  (rec6 : (Int32 × Int32) → Option (Int32 × Sg)) (s : Int32 × Int32) : Option (Int32 × Sg) :=
  match s with
  | (x5, x6) => if x4 < x6 then lp (fX7_widthsBy_L172 x1 x5 ) N0 (0, (wi (wi σ 60 78 0) 60 79 0)) else if inb (x6 - x3) 60 then lp (fX7_widthsBy_L27 x1 x2 x3 x4 x5 x6 σ rec6) N0 ((gi σ 92 (x6 - x3).toNatClampNeg), 0) else none
set_option maxHeartbeats 1500000 in
theorem fX7_widthsBy_L6_ok (x1 : Int32) (x2 : Int32) (x3 : Int32) (x4 : Int32) (σ : Sg)   : ∀ (n : Nat) (x5 : Int32) (x6 : Int32) (r : (Int32 × Sg)), lp (fX7_widthsBy_L6 x1 x2 x3 x4 σ ) n (x5, x6) = some r → Go true 1 iX7_widthsBy (6, [some (.ref 60), some (.int x1), some (.int x2), some (.int x3), some (.int x4), some (.int x5), some (.int x6), none, none, none, none], [], σ) (.inl (some (.int (r).1)), (r).2) := by
  intro n
  induction n with
  | zero => intro x5 x6 r hf; cases hf
  | succ n ih =>
    intro x5 x6 r hf
    have hf : fX7_widthsBy_L6 x1 x2 x3 x4 σ  (lp (fX7_widthsBy_L6 x1 x2 x3 x4 σ ) n) (x5, x6) = some r := hf
    have hrec6 := ih
    generalize lp (fX7_widthsBy_L6 x1 x2 x3 x4 σ ) n = rec6 at hf hrec6
    unfold fX7_widthsBy_L6 at hf
    dsimp only at hf
    refine go_n 2 (f := (10, [some (.ref 60), some (.int x1), some (.int x2), some (.int x3), some (.int x4), some (.int x5), some (.int x6), none, none, none, none], [.int x4, .int x6], σ)) rfl ?_
    by_cases h1 : x4 < x6
    · rw [if_pos h1] at hf
      refine go_it (t := 159) (f := 13) (L1 := [some (.ref 60), some (.int x1), some (.int x2), some (.int x3), some (.int x4), some (.int x5), some (.int x6), none, none, none, none]) (st1 := []) (σ1 := σ) rfl h1 ?_
      refine go_n 6 (f := (169, [some (.ref 60), some (.int x1), some (.int x2), some (.int x3), some (.int x4), some (.int x5), some (.int x6), none, none, none, none], [], (wi (wi σ 60 78 0) 60 79 0))) rfl ?_
      refine go_n 2 (f := (172, [some (.ref 60), some (.int x1), some (.int x2), some (.int x3), some (.int x4), some (.int x5), some (.int 0), none, none, none, none], [], (wi (wi σ 60 78 0) 60 79 0))) rfl ?_
      refine go_e (L1 := [some (.ref 60), some (.int x1), none, none, none, some (.int x5), some (.int 0), none, none, none, none]) rfl rfl ?_
      exact fX7_widthsBy_L172_ok _ _   N0 _ _ _ hf
    · rw [if_neg h1] at hf
      refine go_if (t := 159) (f := 13) (L1 := [some (.ref 60), some (.int x1), some (.int x2), some (.int x3), some (.int x4), some (.int x5), some (.int x6), none, none, none, none]) (st1 := []) (σ1 := σ) rfl h1 ?_
      refine go_n 5 (f := (21, [some (.ref 60), some (.int x1), some (.int x2), some (.int x3), some (.int x4), some (.int x5), some (.int x6), none, none, none, none], [.int (x6 - x3), .ref 92], σ)) rfl ?_
      obtain ⟨h4, hf⟩ := grd hf
      refine go_iald rfl rfl rfl h4 ?_
      refine go_n 3 (f := (27, [some (.ref 60), some (.int x1), some (.int x2), some (.int x3), some (.int x4), some (.int x5), some (.int x6), some (.int (gi σ 92 (x6 - x3).toNatClampNeg)), some (.int 0), none, none], [], σ)) rfl ?_
      exact fX7_widthsBy_L27_ok _ _ _ _ _ _ _ _ hrec6 N0 _ _ _ hf
def fX7_widthsBy (x1 : Int32) (x2 : Int32) (x3 : Int32) (x4 : Int32) (σ : Sg) : Option (Int32 × Sg) :=
  lp (fX7_widthsBy_L6 x1 x2 x3 x4 σ ) N0 (0, x3)
set_option maxHeartbeats 1500000 in
theorem fX7_widthsBy_ok (x1 : Int32) (x2 : Int32) (x3 : Int32) (x4 : Int32) (σ : Sg) (r : (Int32 × Sg)) (hf : fX7_widthsBy x1 x2 x3 x4 σ = some r) : Cl true 1 12170 [.ref 60, .int x1, .int x2, .int x3, .int x4] σ (.inl (some (.int (r).1)), (r).2) := by
  refine ⟨iX7_widthsBy, rfl, Nat.le_of_ble_eq_true rfl, Nat.le_of_ble_eq_true rfl, ?_⟩
  show Go true 1 iX7_widthsBy (0, [some (.ref 60), some (.int x1), some (.int x2), some (.int x3), some (.int x4), none, none, none, none, none, none], [], σ) (.inl (some (.int (r).1)), (r).2)
  unfold fX7_widthsBy at hf
  refine go_n 4 (f := (6, [some (.ref 60), some (.int x1), some (.int x2), some (.int x3), some (.int x4), some (.int 0), some (.int x3), none, none, none, none], [], σ)) rfl ?_
  exact fX7_widthsBy_L6_ok _ _ _ _ _   N0 _ _ _ hf
/-! OldWeatherModel.isMonth(II)Z -/
def fX7_isMonth (x0 : Int32) (x1 : Int32) : Option Int32 :=
  (fX7_in x0.toInt64 1600 1900).bind fun q1 => if q1 = 0 then some 0 else (fX7_in x1.toInt64 1 12).bind fun q4 => ((fun (z7 : Int32) => some z7) ((if q4 = 0 then 0 else 1) : Int32))
set_option maxHeartbeats 1500000 in
theorem fX7_isMonth_ok (x0 : Int32) (x1 : Int32) (σ : Sg) (r : Int32) (hf : fX7_isMonth x0 x1 = some r) : Cl true 1 12172 [.int x0, .int x1] σ (.inl (some (.int r)), σ) := by
  refine ⟨iX7_isMonth, rfl, Nat.le_of_ble_eq_true rfl, Nat.le_of_ble_eq_true rfl, ?_⟩
  show Go true 1 iX7_isMonth (0, [some (.int x0), some (.int x1)], [], σ) (.inl (some (.int r)), σ)
  unfold fX7_isMonth at hf
  refine go_n 4 (f := (8, [some (.int x0), some (.int x1)], [.long 1900, .long 1600, .long x0.toInt64], σ)) rfl ?_
  obtain ⟨q1, h2, hf⟩ := bnd hf
  refine go_c (mid := 12034) (args := [.long x0.toInt64, .long 1600, .long 1900]) (pc := 11) (L := [some (.int x0), some (.int x1)]) (st := []) (σ := σ) rfl ((fX7_in_ok _ _ _ _ q1 h2).deep (Nat.le_of_ble_eq_true rfl)) ?_
  by_cases h3 : q1 = 0
  · rw [if_pos h3] at hf
    refine go_it (t := 30) (f := 14) (L1 := [some (.int x0), some (.int x1)]) (st1 := []) (σ1 := σ) rfl h3 ?_
    refine go_e (L1 := [none, none]) rfl rfl ?_
    refine go_n 1 (f := (31, [none, none], [.int 0], σ)) rfl ?_
    cases hf
    exact go_r rfl
  · rw [if_neg h3] at hf
    refine go_if (t := 30) (f := 14) (L1 := [some (.int x0), some (.int x1)]) (st1 := []) (σ1 := σ) rfl h3 ?_
    refine go_n 4 (f := (20, [some (.int x0), some (.int x1)], [.long 12, .long 1, .long x1.toInt64], σ)) rfl ?_
    obtain ⟨q4, h5, hf⟩ := bnd hf
    refine go_c (mid := 12034) (args := [.long x1.toInt64, .long 1, .long 12]) (pc := 23) (L := [some (.int x0), some (.int x1)]) (st := []) (σ := σ) rfl ((fX7_in_ok _ _ _ _ q4 h5).deep (Nat.le_of_ble_eq_true rfl)) ?_
    refine go_m (f := (31, [none, none], [.int ((if q4 = 0 then 0 else 1) : Int32)], σ)) ?_ (fun hJ8 => ?_)
    · generalize hz7 : ((if q4 = 0 then 0 else 1) : Int32) = z7 at hf ⊢
      have oz7 : am_ok 3 z7 = true := hz7 ▸ (okb rfl rfl)
      try dsimp only at hf
      cases hf
      exact go_ret rfl rfl (Or.inr (Or.inl ⟨rfl, oz7⟩))
    · by_cases h6 : q4 = 0
      · refine go_it (t := 30) (f := 26) (L1 := [some (.int x0), some (.int x1)]) (st1 := []) (σ1 := σ) rfl h6 ?_
        refine go_e (L1 := [none, none]) rfl rfl ?_
        refine go_n 1 (f := (31, [none, none], [.int 0], σ)) rfl ?_
        refine go_e (L1 := [none, none]) rfl rfl ?_
        simp only [if_pos h6] at hJ8
        first | exact hJ8 | (simp only [if_pos h6]; exact hJ8)
      · refine go_if (t := 30) (f := 26) (L1 := [some (.int x0), some (.int x1)]) (st1 := []) (σ1 := σ) rfl h6 ?_
        refine go_n 2 (f := (31, [some (.int x0), some (.int x1)], [.int 1], σ)) rfl ?_
        refine go_e (L1 := [none, none]) rfl rfl ?_
        simp only [if_neg h6] at hJ8
        first | exact hJ8 | (simp only [if_neg h6]; exact hJ8)
/-! OldWeatherModel.sealAt(II)I -/
def fX7_sealAt (x0 : Int32) (x1 : Int32) : Option Int32 :=
  some (21638 + (5 * (((12 * (x0 - 1600)) + x1) - 1)))
set_option maxHeartbeats 1500000 in
theorem fX7_sealAt_ok (x0 : Int32) (x1 : Int32) (σ : Sg) (r : Int32) (hf : fX7_sealAt x0 x1 = some r) : Cl true 0 12175 [.int x0, .int x1] σ (.inl (some (.int r)), σ) := by
  refine ⟨iX7_sealAt, rfl, Nat.le_of_ble_eq_true rfl, Nat.le_of_ble_eq_true rfl, ?_⟩
  show Go true 0 iX7_sealAt (0, [some (.int x0), some (.int x1)], [], σ) (.inl (some (.int r)), σ)
  unfold fX7_sealAt at hf
  refine go_n 10 (f := (15, [some (.int x0), some (.int x1)], [.int 1, .int ((12 * (x0 - 1600)) + x1), .int 5, .int 21638], σ)) rfl ?_
  refine go_n 3 (f := (18, [some (.int x0), some (.int x1)], [.int (21638 + (5 * (((12 * (x0 - 1600)) + x1) - 1)))], σ)) rfl ?_
  cases hf
  exact go_r rfl
/-! OldWeatherModel.alter(II)I -/
def fX7_alter (x1 : Int32) (x2 : Int32) (σ : Sg) : Option (Int32 × Sg) :=
  (fX7_in x2.toInt64 1 255).bind fun q1 => if q1 ≠ 0 then (fX7_isReading x1 (wi σ 60 0 0)).bind fun q4 => if q4 ≠ 0 then if inb ((528 + (9 * x1)) + 5) 39698 then if inb ((528 + (9 * x1)) + 5) 39698 then (fX7_get x1 5 (wi (wi (wi σ 60 0 0) 61 ((528 + (9 * x1)) + 5).toNatClampNeg ((gi σ 61 ((528 + (9 * x1)) + 5).toNatClampNeg) ^^^ x2)) 60 1 0)).bind fun q9 => some (q9, (wi (wi (wi σ 60 0 0) 61 ((528 + (9 * x1)) + 5).toNatClampNeg ((gi σ 61 ((528 + (9 * x1)) + 5).toNatClampNeg) ^^^ x2)) 60 1 0)) else none else none else (fX7_told (-2) (wi σ 60 0 0)).bind fun q11 => some (q11.1, q11.2) else (fX7_told (-1) (wi σ 60 0 0)).bind fun q13 => some (q13.1, q13.2)
set_option maxHeartbeats 1500000 in
theorem fX7_alter_ok (x1 : Int32) (x2 : Int32) (σ : Sg) (r : (Int32 × Sg)) (hf : fX7_alter x1 x2 σ = some r) : Cl true 2 12176 [.ref 60, .int x1, .int x2] σ (.inl (some (.int (r).1)), (r).2) := by
  refine ⟨iX7_alter, rfl, Nat.le_of_ble_eq_true rfl, Nat.le_of_ble_eq_true rfl, ?_⟩
  show Go true 2 iX7_alter (0, [some (.ref 60), some (.int x1), some (.int x2)], [], σ) (.inl (some (.int (r).1)), (r).2)
  unfold fX7_alter at hf
  refine go_n 7 (f := (11, [some (.ref 60), some (.int x1), some (.int x2)], [.long 255, .long 1, .long x2.toInt64], (wi σ 60 0 0))) rfl ?_
  obtain ⟨q1, h2, hf⟩ := bnd hf
  refine go_c (mid := 12034) (args := [.long x2.toInt64, .long 1, .long 255]) (pc := 14) (L := [some (.ref 60), some (.int x1), some (.int x2)]) (st := []) (σ := (wi σ 60 0 0)) rfl ((fX7_in_ok _ _ _ _ q1 h2).deep (Nat.le_of_ble_eq_true rfl)) ?_
  by_cases h3 : q1 ≠ 0
  · rw [if_pos h3] at hf
    refine go_it (t := 23) (f := 17) (L1 := [some (.ref 60), some (.int x1), some (.int x2)]) (st1 := []) (σ1 := (wi σ 60 0 0)) rfl h3 ?_
    refine go_n 2 (f := (25, [some (.ref 60), some (.int x1), some (.int x2)], [.int x1, .ref 60], (wi σ 60 0 0))) rfl ?_
    obtain ⟨q4, h5, hf⟩ := bnd hf
    refine go_c (mid := 12058) (args := [.ref 60, .int x1]) (pc := 28) (L := [some (.ref 60), some (.int x1), some (.int x2)]) (st := []) (σ := (wi σ 60 0 0)) rfl ((fX7_isReading_ok _ _ q4 h5).deep (Nat.le_of_ble_eq_true rfl)) ?_
    by_cases h6 : q4 ≠ 0
    · rw [if_pos h6] at hf
      refine go_it (t := 38) (f := 31) (L1 := [some (.ref 60), some (.int x1), some (.int x2)]) (st1 := []) (σ1 := (wi σ 60 0 0)) rfl h6 ?_
      refine go_n 10 (f := (53, [some (.ref 60), some (.int x1), some (.int x2)], [.int ((528 + (9 * x1)) + 5), .ref 61, .int ((528 + (9 * x1)) + 5), .ref 61], (wi σ 60 0 0))) rfl ?_
      obtain ⟨h7, hf⟩ := grd hf
      refine go_iald rfl rfl rfl h7 ?_
      refine go_n 2 (f := (56, [some (.ref 60), some (.int x1), some (.int x2)], [.int ((gi σ 61 ((528 + (9 * x1)) + 5).toNatClampNeg) ^^^ x2), .int ((528 + (9 * x1)) + 5), .ref 61], (wi σ 60 0 0))) rfl ?_
      obtain ⟨h8, hf⟩ := grd hf
      refine go_iast rfl rfl rfl h8 ?_
      refine go_n 6 (f := (65, [some (.ref 60), some (.int x1), some (.int x2)], [.int 5, .int x1, .ref 60], (wi (wi (wi σ 60 0 0) 61 ((528 + (9 * x1)) + 5).toNatClampNeg ((gi σ 61 ((528 + (9 * x1)) + 5).toNatClampNeg) ^^^ x2)) 60 1 0))) rfl ?_
      obtain ⟨q9, h10, hf⟩ := bnd hf
      refine go_c (mid := 12067) (args := [.ref 60, .int x1, .int 5]) (pc := 68) (L := [some (.ref 60), some (.int x1), some (.int x2)]) (st := []) (σ := (wi (wi (wi σ 60 0 0) 61 ((528 + (9 * x1)) + 5).toNatClampNeg ((gi σ 61 ((528 + (9 * x1)) + 5).toNatClampNeg) ^^^ x2)) 60 1 0)) rfl ((fX7_get_ok _ _ _ q9 h10).deep (Nat.le_of_ble_eq_true rfl)) ?_
      cases hf
      exact go_r rfl
    · rw [if_neg h6] at hf
      refine go_if (t := 38) (f := 31) (L1 := [some (.ref 60), some (.int x1), some (.int x2)]) (st1 := []) (σ1 := (wi σ 60 0 0)) rfl h6 ?_
      refine go_n 2 (f := (34, [some (.ref 60), some (.int x1), some (.int x2)], [.int (-2), .ref 60], (wi σ 60 0 0))) rfl ?_
      obtain ⟨q11, h12, hf⟩ := bnd hf
      refine go_c (mid := 12035) (args := [.ref 60, .int (-2)]) (pc := 37) (L := [some (.ref 60), some (.int x1), some (.int x2)]) (st := []) (σ := (wi σ 60 0 0)) rfl ((fX7_told_ok _ _ q11 h12).deep (Nat.le_of_ble_eq_true rfl)) ?_
      cases hf
      exact go_r rfl
  · rw [if_neg h3] at hf
    refine go_if (t := 23) (f := 17) (L1 := [some (.ref 60), some (.int x1), some (.int x2)]) (st1 := []) (σ1 := (wi σ 60 0 0)) rfl h3 ?_
    refine go_n 2 (f := (19, [some (.ref 60), some (.int x1), some (.int x2)], [.int (-1), .ref 60], (wi σ 60 0 0))) rfl ?_
    obtain ⟨q13, h14, hf⟩ := bnd hf
    refine go_c (mid := 12035) (args := [.ref 60, .int (-1)]) (pc := 22) (L := [some (.ref 60), some (.int x1), some (.int x2)]) (st := []) (σ := (wi σ 60 0 0)) rfl ((fX7_told_ok _ _ q13 h14).deep (Nat.le_of_ble_eq_true rfl)) ?_
    cases hf
    exact go_r rfl
/-! OldWeatherModel.count(I)I -/
def fX7_count (x1 : Int32) (σ : Sg) : Option (Int32 × Sg) :=
  if x1 = 0 then some ((gi σ 61 0), (wi σ 60 0 0)) else if x1 = 1 then some ((gi σ 61 1), (wi σ 60 0 0)) else if x1 = 2 then some ((gi σ 61 2), (wi σ 60 0 0)) else if x1 = 3 then some ((gi σ 61 3), (wi σ 60 0 0)) else if x1 = 4 then some ((gi σ 61 4), (wi σ 60 0 0)) else if x1 = 5 then some ((gi σ 61 5), (wi σ 60 0 0)) else if x1 = 6 then some ((gi σ 60 61), (wi σ 60 0 0)) else if x1 = 7 then some ((gi σ 60 14), (wi σ 60 0 0)) else some ((-1), (wi σ 60 0 0))
set_option maxHeartbeats 1500000 in
theorem fX7_count_ok (x1 : Int32) (σ : Sg) (r : (Int32 × Sg)) (hf : fX7_count x1 σ = some r) : Cl true 0 12178 [.ref 60, .int x1] σ (.inl (some (.int (r).1)), (r).2) := by
  refine ⟨iX7_count, rfl, Nat.le_of_ble_eq_true rfl, Nat.le_of_ble_eq_true rfl, ?_⟩
  show Go true 0 iX7_count (0, [some (.ref 60), some (.int x1)], [], σ) (.inl (some (.int (r).1)), (r).2)
  unfold fX7_count at hf
  refine go_n 4 (f := (6, [some (.ref 60), some (.int x1)], [.int x1], (wi σ 60 0 0))) rfl ?_
  by_cases h1 : x1 = 0
  · rw [if_pos h1] at hf
    refine go_tsw (t := 52) rfl rfl (by rw [h1]; rfl) ?_
    refine go_n 4 (f := (58, [some (.ref 60), some (.int x1)], [.int (gi σ 61 0)], (wi σ 60 0 0))) rfl ?_
    cases hf
    exact go_r rfl
  · rw [if_neg h1] at hf
    by_cases h2 : x1 = 1
    · rw [if_pos h2] at hf
      refine go_tsw (t := 59) rfl rfl (by rw [h2]; rfl) ?_
      refine go_n 4 (f := (65, [some (.ref 60), some (.int x1)], [.int (gi σ 61 1)], (wi σ 60 0 0))) rfl ?_
      cases hf
      exact go_r rfl
    · rw [if_neg h2] at hf
      by_cases h3 : x1 = 2
      · rw [if_pos h3] at hf
        refine go_tsw (t := 66) rfl rfl (by rw [h3]; rfl) ?_
        refine go_n 4 (f := (72, [some (.ref 60), some (.int x1)], [.int (gi σ 61 2)], (wi σ 60 0 0))) rfl ?_
        cases hf
        exact go_r rfl
      · rw [if_neg h3] at hf
        by_cases h4 : x1 = 3
        · rw [if_pos h4] at hf
          refine go_tsw (t := 73) rfl rfl (by rw [h4]; rfl) ?_
          refine go_n 4 (f := (79, [some (.ref 60), some (.int x1)], [.int (gi σ 61 3)], (wi σ 60 0 0))) rfl ?_
          cases hf
          exact go_r rfl
        · rw [if_neg h4] at hf
          by_cases h5 : x1 = 4
          · rw [if_pos h5] at hf
            refine go_tsw (t := 80) rfl rfl (by rw [h5]; rfl) ?_
            refine go_n 4 (f := (86, [some (.ref 60), some (.int x1)], [.int (gi σ 61 4)], (wi σ 60 0 0))) rfl ?_
            cases hf
            exact go_r rfl
          · rw [if_neg h5] at hf
            by_cases h6 : x1 = 5
            · rw [if_pos h6] at hf
              refine go_tsw (t := 87) rfl rfl (by rw [h6]; rfl) ?_
              refine go_n 4 (f := (93, [some (.ref 60), some (.int x1)], [.int (gi σ 61 5)], (wi σ 60 0 0))) rfl ?_
              cases hf
              exact go_r rfl
            · rw [if_neg h6] at hf
              by_cases h7 : x1 = 6
              · rw [if_pos h7] at hf
                refine go_tsw (t := 94) rfl rfl (by rw [h7]; rfl) ?_
                refine go_n 2 (f := (98, [some (.ref 60), some (.int x1)], [.int (gi σ 60 61)], (wi σ 60 0 0))) rfl ?_
                cases hf
                exact go_r rfl
              · rw [if_neg h7] at hf
                by_cases h8 : x1 = 7
                · rw [if_pos h8] at hf
                  refine go_tsw (t := 99) rfl rfl (by rw [h8]; rfl) ?_
                  refine go_n 2 (f := (103, [some (.ref 60), some (.int x1)], [.int (gi σ 60 14)], (wi σ 60 0 0))) rfl ?_
                  cases hf
                  exact go_r rfl
                · rw [if_neg h8] at hf
                  have htt : am_ts 6 98 0 7 #[46, 53, 60, 67, 74, 81, 88, 93] x1 = some 104 := by
                    have hts : x1.toInt < 0 ∨ 7 < x1.toInt := by
                      have h1t : x1.toInt ≠ 0 := tsn h1
                      have h2t : x1.toInt ≠ 1 := tsn h2
                      have h3t : x1.toInt ≠ 2 := tsn h3
                      have h4t : x1.toInt ≠ 3 := tsn h4
                      have h5t : x1.toInt ≠ 4 := tsn h5
                      have h6t : x1.toInt ≠ 5 := tsn h6
                      have h7t : x1.toInt ≠ 6 := tsn h7
                      have h8t : x1.toInt ≠ 7 := tsn h8
                      omega
                    unfold am_ts; rw [if_pos hts]; rfl
                  refine go_tsw (t := 104) rfl rfl htt ?_
                  refine go_n 1 (f := (105, [some (.ref 60), some (.int x1)], [.int (-1)], (wi σ 60 0 0))) rfl ?_
                  cases hf
                  exact go_r rfl
/-! OldWeatherModel.status()I -/
def fX7_status  (σ : Sg) : Option (Int32 × Sg) :=
  some ((gi σ 60 1), (wi σ 60 0 0))
set_option maxHeartbeats 1500000 in
theorem fX7_status_ok  (σ : Sg) (r : (Int32 × Sg)) (hf : fX7_status  σ = some r) : Cl true 0 12179 [.ref 60] σ (.inl (some (.int (r).1)), (r).2) := by
  refine ⟨iX7_status, rfl, Nat.le_of_ble_eq_true rfl, Nat.le_of_ble_eq_true rfl, ?_⟩
  show Go true 0 iX7_status (0, [some (.ref 60)], [], σ) (.inl (some (.int (r).1)), (r).2)
  unfold fX7_status at hf
  refine go_n 5 (f := (9, [some (.ref 60)], [.int (gi σ 60 1)], (wi σ 60 0 0))) rfl ?_
  cases hf
  exact go_r rfl
/-! OldWeatherModel.image(I)I -/
def fX7_image_L25 (x1 : Int32)  (rec25 : (Int32 × Sg) → Option (Int32 × Sg)) (s : Int32 × Sg) : Option (Int32 × Sg) :=
  match s with
  | (x2, σ) => if 39698 ≤ x2 then if inb x1 3 then (fX7_told 0 (wi σ 63 x1.toNatClampNeg 1)).bind fun q6 => some (q6.1, q6.2) else none else if inb x2 39698 then if inb ((39698 * x1) + x2) 119094 then rec25 ((x2 + 1), (wi σ 62 ((39698 * x1) + x2).toNatClampNeg (gi σ 61 x2.toNatClampNeg))) else none else none
set_option maxHeartbeats 1500000 in
theorem fX7_image_L25_ok (x1 : Int32)   : ∀ (n : Nat) (x2 : Int32) (σ : Sg) (r : (Int32 × Sg)), lp (fX7_image_L25 x1 ) n (x2, σ) = some r → Go true 1 iX7_image (25, [some (.ref 60), some (.int x1), some (.int x2)], [], σ) (.inl (some (.int (r).1)), (r).2) := by
  intro n
  induction n with
  | zero => intro x2 σ r hf; cases hf
  | succ n ih =>
    intro x2 σ r hf
    have hf : fX7_image_L25 x1  (lp (fX7_image_L25 x1 ) n) (x2, σ) = some r := hf
    have hrec25 := ih
    generalize lp (fX7_image_L25 x1 ) n = rec25 at hf hrec25
    unfold fX7_image_L25 at hf
    dsimp only at hf
    refine go_n 2 (f := (28, [some (.ref 60), some (.int x1), some (.int x2)], [.int 39698, .int x2], σ)) rfl ?_
    by_cases h4 : 39698 ≤ x2
    · rw [if_pos h4] at hf
      refine go_it (t := 54) (f := 31) (L1 := [some (.ref 60), some (.int x1), some (.int x2)]) (st1 := []) (σ1 := σ) rfl h4 ?_
      refine go_n 4 (f := (60, [some (.ref 60), some (.int x1), some (.int x2)], [.int 1, .int x1, .ref 63], σ)) rfl ?_
      obtain ⟨h5, hf⟩ := grd hf
      refine go_bast rfl rfl (Or.inr rfl) h5 ?_
      refine go_n 2 (f := (63, [some (.ref 60), some (.int x1), some (.int x2)], [.int 0, .ref 60], (wi σ 63 x1.toNatClampNeg 1))) rfl ?_
      obtain ⟨q6, h7, hf⟩ := bnd hf
      refine go_c (mid := 12035) (args := [.ref 60, .int 0]) (pc := 66) (L := [some (.ref 60), some (.int x1), some (.int x2)]) (st := []) (σ := (wi σ 63 x1.toNatClampNeg 1)) rfl ((fX7_told_ok _ _ q6 h7).deep (Nat.le_of_ble_eq_true rfl)) ?_
      cases hf
      exact go_r rfl
    · rw [if_neg h4] at hf
      refine go_if (t := 54) (f := 31) (L1 := [some (.ref 60), some (.int x1), some (.int x2)]) (st1 := []) (σ1 := σ) rfl h4 ?_
      refine go_n 10 (f := (46, [some (.ref 60), some (.int x1), some (.int x2)], [.int x2, .ref 61, .int ((39698 * x1) + x2), .ref 62], σ)) rfl ?_
      obtain ⟨h8, hf⟩ := grd hf
      refine go_iald rfl rfl rfl h8 ?_
      obtain ⟨h9, hf⟩ := grd hf
      refine go_iast rfl rfl rfl h9 ?_
      refine go_n 2 (f := (25, [some (.ref 60), some (.int x1), some (.int (x2 + 1))], [], (wi σ 62 ((39698 * x1) + x2).toNatClampNeg (gi σ 61 x2.toNatClampNeg)))) rfl ?_
      exact hrec25 _ _ _ hf
def fX7_image (x1 : Int32) (σ : Sg) : Option (Int32 × Sg) :=
  (fX7_in x1.toInt64 0 2).bind fun q1 => if q1 ≠ 0 then lp (fX7_image_L25 x1 ) N0 (0, (wi σ 60 0 0)) else (fX7_told (-1) (wi σ 60 0 0)).bind fun q10 => some (q10.1, q10.2)
set_option maxHeartbeats 1500000 in
theorem fX7_image_ok (x1 : Int32) (σ : Sg) (r : (Int32 × Sg)) (hf : fX7_image x1 σ = some r) : Cl true 1 12033 [.ref 60, .int x1] σ (.inl (some (.int (r).1)), (r).2) := by
  refine ⟨iX7_image, rfl, Nat.le_of_ble_eq_true rfl, Nat.le_of_ble_eq_true rfl, ?_⟩
  show Go true 1 iX7_image (0, [some (.ref 60), some (.int x1), none], [], σ) (.inl (some (.int (r).1)), (r).2)
  unfold fX7_image at hf
  refine go_n 7 (f := (11, [some (.ref 60), some (.int x1), none], [.long 2, .long 0, .long x1.toInt64], (wi σ 60 0 0))) rfl ?_
  obtain ⟨q1, h2, hf⟩ := bnd hf
  refine go_c (mid := 12034) (args := [.long x1.toInt64, .long 0, .long 2]) (pc := 14) (L := [some (.ref 60), some (.int x1), none]) (st := []) (σ := (wi σ 60 0 0)) rfl ((fX7_in_ok _ _ _ _ q1 h2).deep (Nat.le_of_ble_eq_true rfl)) ?_
  by_cases h3 : q1 ≠ 0
  · rw [if_pos h3] at hf
    refine go_it (t := 23) (f := 17) (L1 := [some (.ref 60), some (.int x1), none]) (st1 := []) (σ1 := (wi σ 60 0 0)) rfl h3 ?_
    refine go_n 2 (f := (25, [some (.ref 60), some (.int x1), some (.int 0)], [], (wi σ 60 0 0))) rfl ?_
    exact fX7_image_L25_ok _   N0 _ _ _ hf
  · rw [if_neg h3] at hf
    refine go_if (t := 23) (f := 17) (L1 := [some (.ref 60), some (.int x1), none]) (st1 := []) (σ1 := (wi σ 60 0 0)) rfl h3 ?_
    refine go_n 2 (f := (19, [some (.ref 60), some (.int x1), none], [.int (-1), .ref 60], (wi σ 60 0 0))) rfl ?_
    obtain ⟨q10, h11, hf⟩ := bnd hf
    refine go_c (mid := 12035) (args := [.ref 60, .int (-1)]) (pc := 22) (L := [some (.ref 60), some (.int x1), none]) (st := []) (σ := (wi σ 60 0 0)) rfl ((fX7_told_ok _ _ q10 h11).deep (Nat.le_of_ble_eq_true rfl)) ?_
    cases hf
    exact go_r rfl
/-! OldWeatherModel.monthLong(III)I -/
def fX7_monthLong (x0 : Int32) (x1 : Int32) (x2 : Int32) : Option Int32 :=
  if x1 ≠ 2 then ((fun (z6 : Int32) => some z6) ((if x1 = 4 then 30 else (if x1 = 6 then 30 else (if x1 = 9 then 30 else (if x1 ≠ 11 then 31 else 30)))) : Int32)) else (fX7_isLong x0 x2).bind fun q8 => ((fun (z11 : Int32) => some z11) ((if q8 = 0 then 28 else 29) : Int32))
set_option maxHeartbeats 1500000 in
theorem fX7_monthLong_ok (x0 : Int32) (x1 : Int32) (x2 : Int32) (σ : Sg) (r : Int32) (hf : fX7_monthLong x0 x1 x2 = some r) : Cl true 1 12039 [.int x0, .int x1, .int x2] σ (.inl (some (.int r)), σ) := by
  refine ⟨iX7_monthLong, rfl, Nat.le_of_ble_eq_true rfl, Nat.le_of_ble_eq_true rfl, ?_⟩
  show Go true 1 iX7_monthLong (0, [some (.int x0), some (.int x1), some (.int x2)], [], σ) (.inl (some (.int r)), σ)
  unfold fX7_monthLong at hf
  refine go_n 2 (f := (2, [some (.int x0), some (.int x1), some (.int x2)], [.int 2, .int x1], σ)) rfl ?_
  by_cases h1 : x1 ≠ 2
  · rw [if_pos h1] at hf
    refine go_it (t := 21) (f := 5) (L1 := [some (.int x0), some (.int x1), some (.int x2)]) (st1 := []) (σ1 := σ) rfl h1 ?_
    refine go_n 2 (f := (23, [some (.int x0), some (.int x1), some (.int x2)], [.int 4, .int x1], σ)) rfl ?_
    refine go_m (f := (51, [none, none, none], [.int ((if x1 = 4 then 30 else (if x1 = 6 then 30 else (if x1 = 9 then 30 else (if x1 ≠ 11 then 31 else 30)))) : Int32)], σ)) ?_ (fun hJ7 => ?_)
    · generalize hz6 : ((if x1 = 4 then 30 else (if x1 = 6 then 30 else (if x1 = 9 then 30 else (if x1 ≠ 11 then 31 else 30)))) : Int32) = z6 at hf ⊢
      try dsimp only at hf
      cases hf
      exact go_r rfl
    · by_cases h2 : x1 = 4
      · refine go_it (t := 44) (f := 26) (L1 := [some (.int x0), some (.int x1), some (.int x2)]) (st1 := []) (σ1 := σ) rfl h2 ?_
        refine go_e (L1 := [none, none, none]) rfl rfl ?_
        refine go_n 2 (f := (51, [none, none, none], [.int 30], σ)) rfl ?_
        refine go_e (L1 := [none, none, none]) rfl rfl ?_
        simp only [if_pos h2] at hJ7
        first | exact hJ7 | (simp only [if_pos h2]; exact hJ7)
      · refine go_if (t := 44) (f := 26) (L1 := [some (.int x0), some (.int x1), some (.int x2)]) (st1 := []) (σ1 := σ) rfl h2 ?_
        refine go_n 2 (f := (29, [some (.int x0), some (.int x1), some (.int x2)], [.int 6, .int x1], σ)) rfl ?_
        by_cases h3 : x1 = 6
        · refine go_it (t := 44) (f := 32) (L1 := [some (.int x0), some (.int x1), some (.int x2)]) (st1 := []) (σ1 := σ) rfl h3 ?_
          refine go_e (L1 := [none, none, none]) rfl rfl ?_
          refine go_n 2 (f := (51, [none, none, none], [.int 30], σ)) rfl ?_
          refine go_e (L1 := [none, none, none]) rfl rfl ?_
          simp only [if_neg h2, if_pos h3] at hJ7
          first | exact hJ7 | (simp only [if_neg h2, if_pos h3]; exact hJ7)
        · refine go_if (t := 44) (f := 32) (L1 := [some (.int x0), some (.int x1), some (.int x2)]) (st1 := []) (σ1 := σ) rfl h3 ?_
          refine go_n 2 (f := (35, [some (.int x0), some (.int x1), some (.int x2)], [.int 9, .int x1], σ)) rfl ?_
          by_cases h4 : x1 = 9
          · refine go_it (t := 44) (f := 38) (L1 := [some (.int x0), some (.int x1), some (.int x2)]) (st1 := []) (σ1 := σ) rfl h4 ?_
            refine go_e (L1 := [none, none, none]) rfl rfl ?_
            refine go_n 2 (f := (51, [none, none, none], [.int 30], σ)) rfl ?_
            refine go_e (L1 := [none, none, none]) rfl rfl ?_
            simp only [if_neg h2, if_neg h3, if_pos h4] at hJ7
            first | exact hJ7 | (simp only [if_neg h2, if_neg h3, if_pos h4]; exact hJ7)
          · refine go_if (t := 44) (f := 38) (L1 := [some (.int x0), some (.int x1), some (.int x2)]) (st1 := []) (σ1 := σ) rfl h4 ?_
            refine go_n 2 (f := (41, [some (.int x0), some (.int x1), some (.int x2)], [.int 11, .int x1], σ)) rfl ?_
            by_cases h5 : x1 ≠ 11
            · refine go_it (t := 49) (f := 44) (L1 := [some (.int x0), some (.int x1), some (.int x2)]) (st1 := []) (σ1 := σ) rfl h5 ?_
              refine go_n 1 (f := (51, [some (.int x0), some (.int x1), some (.int x2)], [.int 31], σ)) rfl ?_
              refine go_e (L1 := [none, none, none]) rfl rfl ?_
              simp only [if_neg h2, if_neg h3, if_neg h4, if_pos h5] at hJ7
              first | exact hJ7 | (simp only [if_neg h2, if_neg h3, if_neg h4, if_pos h5]; exact hJ7)
            · refine go_if (t := 49) (f := 44) (L1 := [some (.int x0), some (.int x1), some (.int x2)]) (st1 := []) (σ1 := σ) rfl h5 ?_
              refine go_e (L1 := [none, none, none]) rfl rfl ?_
              refine go_n 2 (f := (51, [none, none, none], [.int 30], σ)) rfl ?_
              refine go_e (L1 := [none, none, none]) rfl rfl ?_
              simp only [if_neg h2, if_neg h3, if_neg h4, if_neg h5] at hJ7
              first | exact hJ7 | (simp only [if_neg h2, if_neg h3, if_neg h4, if_neg h5]; exact hJ7)
  · rw [if_neg h1] at hf
    refine go_if (t := 21) (f := 5) (L1 := [some (.int x0), some (.int x1), some (.int x2)]) (st1 := []) (σ1 := σ) rfl h1 ?_
    refine go_n 2 (f := (7, [some (.int x0), some (.int x1), some (.int x2)], [.int x2, .int x0], σ)) rfl ?_
    obtain ⟨q8, h9, hf⟩ := bnd hf
    refine go_c (mid := 12040) (args := [.int x0, .int x2]) (pc := 10) (L := [some (.int x0), some (.int x1), some (.int x2)]) (st := []) (σ := σ) rfl ((fX7_isLong_ok _ _ _ q8 h9).deep (Nat.le_of_ble_eq_true rfl)) ?_
    refine go_m (f := (20, [none, none, none], [.int ((if q8 = 0 then 28 else 29) : Int32)], σ)) ?_ (fun hJ12 => ?_)
    · generalize hz11 : ((if q8 = 0 then 28 else 29) : Int32) = z11 at hf ⊢
      try dsimp only at hf
      cases hf
      exact go_r rfl
    · by_cases h10 : q8 = 0
      · refine go_it (t := 18) (f := 13) (L1 := [some (.int x0), some (.int x1), some (.int x2)]) (st1 := []) (σ1 := σ) rfl h10 ?_
        refine go_n 1 (f := (20, [some (.int x0), some (.int x1), some (.int x2)], [.int 28], σ)) rfl ?_
        refine go_e (L1 := [none, none, none]) rfl rfl ?_
        simp only [if_pos h10] at hJ12
        first | exact hJ12 | (simp only [if_pos h10]; exact hJ12)
      · refine go_if (t := 18) (f := 13) (L1 := [some (.int x0), some (.int x1), some (.int x2)]) (st1 := []) (σ1 := σ) rfl h10 ?_
        refine go_n 2 (f := (20, [some (.int x0), some (.int x1), some (.int x2)], [.int 29], σ)) rfl ?_
        refine go_e (L1 := [none, none, none]) rfl rfl ?_
        simp only [if_neg h10] at hJ12
        first | exact hJ12 | (simp only [if_neg h10]; exact hJ12)
/-! OldWeatherModel.dayOf(IIII)I -/
def fX7_dayOf_L55 (x0 : Int32) (x1 : Int32) (x2 : Int32) (x3 : Int32)  (rec55 : (Int32 × Int32) → Option Int32) (s : Int32 × Int32) : Option Int32 :=
  match s with
  | (x4, x5) => if x1 ≤ x5 then some ((x4 + x2) - 1) else (fX7_monthLong x0 x5 x3).bind fun q5 => rec55 ((x4 + q5), (x5 + 1))
set_option maxHeartbeats 1500000 in
theorem fX7_dayOf_L55_ok (x0 : Int32) (x1 : Int32) (x2 : Int32) (x3 : Int32) (σ : Sg)   : ∀ (n : Nat) (x4 : Int32) (x5 : Int32) (r : Int32), lp (fX7_dayOf_L55 x0 x1 x2 x3 ) n (x4, x5) = some r → Go true 2 iX7_dayOf (55, [some (.int x0), some (.int x1), some (.int x2), some (.int x3), some (.int x4), some (.int x5)], [], σ) (.inl (some (.int r)), σ) := by
  intro n
  induction n with
  | zero => intro x4 x5 r hf; cases hf
  | succ n ih =>
    intro x4 x5 r hf
    have hf : fX7_dayOf_L55 x0 x1 x2 x3  (lp (fX7_dayOf_L55 x0 x1 x2 x3 ) n) (x4, x5) = some r := hf
    have hrec55 := ih
    generalize lp (fX7_dayOf_L55 x0 x1 x2 x3 ) n = rec55 at hf hrec55
    unfold fX7_dayOf_L55 at hf
    dsimp only at hf
    refine go_n 2 (f := (58, [some (.int x0), some (.int x1), some (.int x2), some (.int x3), some (.int x4), some (.int x5)], [.int x1, .int x5], σ)) rfl ?_
    by_cases h4 : x1 ≤ x5
    · rw [if_pos h4] at hf
      refine go_it (t := 79) (f := 61) (L1 := [some (.int x0), some (.int x1), some (.int x2), some (.int x3), some (.int x4), some (.int x5)]) (st1 := []) (σ1 := σ) rfl h4 ?_
      refine go_n 5 (f := (85, [some (.int x0), some (.int x1), some (.int x2), some (.int x3), some (.int x4), some (.int x5)], [.int ((x4 + x2) - 1)], σ)) rfl ?_
      cases hf
      exact go_r rfl
    · rw [if_neg h4] at hf
      refine go_if (t := 79) (f := 61) (L1 := [some (.int x0), some (.int x1), some (.int x2), some (.int x3), some (.int x4), some (.int x5)]) (st1 := []) (σ1 := σ) rfl h4 ?_
      refine go_n 4 (f := (67, [some (.int x0), some (.int x1), some (.int x2), some (.int x3), some (.int x4), some (.int x5)], [.int x3, .int x5, .int x0, .int x4], σ)) rfl ?_
      obtain ⟨q5, h6, hf⟩ := bnd hf
      refine go_c (mid := 12039) (args := [.int x0, .int x5, .int x3]) (pc := 70) (L := [some (.int x0), some (.int x1), some (.int x2), some (.int x3), some (.int x4), some (.int x5)]) (st := [.int x4]) (σ := σ) rfl ((fX7_monthLong_ok _ _ _ _ q5 h6).deep (Nat.le_of_ble_eq_true rfl)) ?_
      refine go_n 3 (f := (76, [some (.int x0), some (.int x1), some (.int x2), some (.int x3), some (.int (x4 + q5)), some (.int (x5 + 1))], [], σ)) rfl ?_
      refine go_n 1 (f := (55, [some (.int x0), some (.int x1), some (.int x2), some (.int x3), some (.int (x4 + q5)), some (.int (x5 + 1))], [], σ)) rfl ?_
      exact hrec55 _ _ _ hf
def fX7_dayOf_L17 (x0 : Int32) (x1 : Int32) (x2 : Int32) (x3 : Int32)  (rec17 : (Int32 × Int32) → Option Int32) (s : Int32 × Int32) : Option Int32 :=
  match s with
  | (x4, x5) => if x0 ≤ x5 then lp (fX7_dayOf_L55 x0 x1 x2 x3 ) N0 (x4, 1) else (fX7_isLong x5 x3).bind fun q7 => ((fun (z10 : Int32) => rec17 ((x4 + z10), (x5 + 1))) ((if q7 = 0 then 365 else 366) : Int32))
set_option maxHeartbeats 1500000 in
theorem fX7_dayOf_L17_ok (x0 : Int32) (x1 : Int32) (x2 : Int32) (x3 : Int32) (σ : Sg)   : ∀ (n : Nat) (x4 : Int32) (x5 : Int32) (r : Int32), lp (fX7_dayOf_L17 x0 x1 x2 x3 ) n (x4, x5) = some r → Go true 2 iX7_dayOf (17, [some (.int x0), some (.int x1), some (.int x2), some (.int x3), some (.int x4), some (.int x5)], [], σ) (.inl (some (.int r)), σ) := by
  intro n
  induction n with
  | zero => intro x4 x5 r hf; cases hf
  | succ n ih =>
    intro x4 x5 r hf
    have hf : fX7_dayOf_L17 x0 x1 x2 x3  (lp (fX7_dayOf_L17 x0 x1 x2 x3 ) n) (x4, x5) = some r := hf
    have hrec17 := ih
    generalize lp (fX7_dayOf_L17 x0 x1 x2 x3 ) n = rec17 at hf hrec17
    unfold fX7_dayOf_L17 at hf
    dsimp only at hf
    refine go_n 2 (f := (20, [some (.int x0), some (.int x1), some (.int x2), some (.int x3), some (.int x4), some (.int x5)], [.int x0, .int x5], σ)) rfl ?_
    by_cases h3 : x0 ≤ x5
    · rw [if_pos h3] at hf
      refine go_it (t := 52) (f := 23) (L1 := [some (.int x0), some (.int x1), some (.int x2), some (.int x3), some (.int x4), some (.int x5)]) (st1 := []) (σ1 := σ) rfl h3 ?_
      refine go_n 2 (f := (55, [some (.int x0), some (.int x1), some (.int x2), some (.int x3), some (.int x4), some (.int 1)], [], σ)) rfl ?_
      exact fX7_dayOf_L55_ok _ _ _ _ _   N0 _ _ _ hf
    · rw [if_neg h3] at hf
      refine go_if (t := 52) (f := 23) (L1 := [some (.int x0), some (.int x1), some (.int x2), some (.int x3), some (.int x4), some (.int x5)]) (st1 := []) (σ1 := σ) rfl h3 ?_
      refine go_n 3 (f := (28, [some (.int x0), some (.int x1), some (.int x2), some (.int x3), some (.int x4), some (.int x5)], [.int x3, .int x5, .int x4], σ)) rfl ?_
      obtain ⟨q7, h8, hf⟩ := bnd hf
      refine go_c (mid := 12040) (args := [.int x5, .int x3]) (pc := 31) (L := [some (.int x0), some (.int x1), some (.int x2), some (.int x3), some (.int x4), some (.int x5)]) (st := [.int x4]) (σ := σ) rfl ((fX7_isLong_ok _ _ _ q7 h8).deep (Nat.le_of_ble_eq_true rfl)) ?_
      refine go_m (f := (43, [some (.int x0), some (.int x1), some (.int x2), some (.int x3), none, some (.int x5)], [.int ((if q7 = 0 then 365 else 366) : Int32), .int x4], σ)) ?_ (fun hJ11 => ?_)
      · generalize hz10 : ((if q7 = 0 then 365 else 366) : Int32) = z10 at hf ⊢
        try dsimp only at hf
        refine go_n 3 (f := (49, [some (.int x0), some (.int x1), some (.int x2), some (.int x3), some (.int (x4 + z10)), some (.int (x5 + 1))], [], σ)) rfl ?_
        refine go_n 1 (f := (17, [some (.int x0), some (.int x1), some (.int x2), some (.int x3), some (.int (x4 + z10)), some (.int (x5 + 1))], [], σ)) rfl ?_
        exact hrec17 _ _ _ hf
      · by_cases h9 : q7 = 0
        · refine go_it (t := 40) (f := 34) (L1 := [some (.int x0), some (.int x1), some (.int x2), some (.int x3), some (.int x4), some (.int x5)]) (st1 := [.int x4]) (σ1 := σ) rfl h9 ?_
          refine go_n 1 (f := (43, [some (.int x0), some (.int x1), some (.int x2), some (.int x3), some (.int x4), some (.int x5)], [.int 365, .int x4], σ)) rfl ?_
          refine go_e (L1 := [some (.int x0), some (.int x1), some (.int x2), some (.int x3), none, some (.int x5)]) rfl rfl ?_
          simp only [if_pos h9] at hJ11
          first | exact hJ11 | (simp only [if_pos h9]; exact hJ11)
        · refine go_if (t := 40) (f := 34) (L1 := [some (.int x0), some (.int x1), some (.int x2), some (.int x3), some (.int x4), some (.int x5)]) (st1 := [.int x4]) (σ1 := σ) rfl h9 ?_
          refine go_n 2 (f := (43, [some (.int x0), some (.int x1), some (.int x2), some (.int x3), some (.int x4), some (.int x5)], [.int 366, .int x4], σ)) rfl ?_
          refine go_e (L1 := [some (.int x0), some (.int x1), some (.int x2), some (.int x3), none, some (.int x5)]) rfl rfl ?_
          simp only [if_neg h9] at hJ11
          first | exact hJ11 | (simp only [if_neg h9]; exact hJ11)
def fX7_dayOf (x0 : Int32) (x1 : Int32) (x2 : Int32) (x3 : Int32) : Option Int32 :=
  ((fun (z2 : Int32) => lp (fX7_dayOf_L17 x0 x1 x2 x3 ) N0 (z2, 1600)) ((if x3 ≠ 0 then 0 else 10) : Int32))
set_option maxHeartbeats 1500000 in
theorem fX7_dayOf_ok (x0 : Int32) (x1 : Int32) (x2 : Int32) (x3 : Int32) (σ : Sg) (r : Int32) (hf : fX7_dayOf x0 x1 x2 x3 = some r) : Cl true 2 12041 [.int x0, .int x1, .int x2, .int x3] σ (.inl (some (.int r)), σ) := by
  refine ⟨iX7_dayOf, rfl, Nat.le_of_ble_eq_true rfl, Nat.le_of_ble_eq_true rfl, ?_⟩
  show Go true 2 iX7_dayOf (0, [some (.int x0), some (.int x1), some (.int x2), some (.int x3), none, none], [], σ) (.inl (some (.int r)), σ)
  unfold fX7_dayOf at hf
  refine go_n 1 (f := (1, [some (.int x0), some (.int x1), some (.int x2), some (.int x3), none, none], [.int x3], σ)) rfl ?_
  refine go_m (f := (10, [some (.int x0), some (.int x1), some (.int x2), some (.int x3), none, none], [.int ((if x3 ≠ 0 then 0 else 10) : Int32)], σ)) ?_ (fun hJ12 => ?_)
  · generalize hz2 : ((if x3 ≠ 0 then 0 else 10) : Int32) = z2 at hf ⊢
    try dsimp only at hf
    refine go_n 3 (f := (17, [some (.int x0), some (.int x1), some (.int x2), some (.int x3), some (.int z2), some (.int 1600)], [], σ)) rfl ?_
    exact fX7_dayOf_L17_ok _ _ _ _ _   N0 _ _ _ hf
  · by_cases h1 : x3 ≠ 0
    · refine go_it (t := 9) (f := 4) (L1 := [some (.int x0), some (.int x1), some (.int x2), some (.int x3), none, none]) (st1 := []) (σ1 := σ) rfl h1 ?_
      refine go_n 1 (f := (10, [some (.int x0), some (.int x1), some (.int x2), some (.int x3), none, none], [.int 0], σ)) rfl ?_
      refine go_e (L1 := [some (.int x0), some (.int x1), some (.int x2), some (.int x3), none, none]) rfl rfl ?_
      simp only [if_pos h1] at hJ12
      first | exact hJ12 | (simp only [if_pos h1]; exact hJ12)
    · refine go_if (t := 9) (f := 4) (L1 := [some (.int x0), some (.int x1), some (.int x2), some (.int x3), none, none]) (st1 := []) (σ1 := σ) rfl h1 ?_
      refine go_n 2 (f := (10, [some (.int x0), some (.int x1), some (.int x2), some (.int x3), none, none], [.int 10], σ)) rfl ?_
      refine go_e (L1 := [some (.int x0), some (.int x1), some (.int x2), some (.int x3), none, none]) rfl rfl ?_
      simp only [if_neg h1] at hJ12
      first | exact hJ12 | (simp only [if_neg h1]; exact hJ12)
/-! OldWeatherModel.findDate(II)V -/
def fX7_findDate_L85 (x2 : Int32)  (rec85 : (Int32 × Sg) → Option Sg) (s : Int32 × Sg) : Option Sg :=
  match s with
  | (x3, σ) => (fX7_monthLong (gi σ 60 5) (gi σ 60 6) x2).bind fun q8 => if x3 < q8 then some (wi σ 60 7 (x3 + 1)) else (fX7_monthLong (gi σ 60 5) (gi σ 60 6) x2).bind fun q11 => rec85 ((x3 - q11), (wi σ 60 6 ((gi σ 60 6) + 1)))
set_option maxHeartbeats 1500000 in
theorem fX7_findDate_L85_ok (x2 : Int32)   : ∀ (n : Nat) (x3 : Int32) (σ : Sg) (r : Sg), lp (fX7_findDate_L85 x2 ) n (x3, σ) = some r → Go true 2 iX7_findDate (85, [some (.ref 60), none, some (.int x2), some (.int x3)], [], σ) (.inl none, r) := by
  intro n
  induction n with
  | zero => intro x3 σ r hf; cases hf
  | succ n ih =>
    intro x3 σ r hf
    have hf : fX7_findDate_L85 x2  (lp (fX7_findDate_L85 x2 ) n) (x3, σ) = some r := hf
    have hrec85 := ih
    generalize lp (fX7_findDate_L85 x2 ) n = rec85 at hf hrec85
    unfold fX7_findDate_L85 at hf
    dsimp only at hf
    refine go_n 6 (f := (95, [some (.ref 60), none, some (.int x2), some (.int x3)], [.int x2, .int (gi σ 60 6), .int (gi σ 60 5), .int x3], σ)) rfl ?_
    obtain ⟨q8, h9, hf⟩ := bnd hf
    refine go_c (mid := 12039) (args := [.int (gi σ 60 5), .int (gi σ 60 6), .int x2]) (pc := 98) (L := [some (.ref 60), none, some (.int x2), some (.int x3)]) (st := [.int x3]) (σ := σ) rfl ((fX7_monthLong_ok _ _ _ _ q8 h9).deep (Nat.le_of_ble_eq_true rfl)) ?_
    by_cases h10 : x3 < q8
    · rw [if_pos h10] at hf
      refine go_it (t := 129) (f := 101) (L1 := [some (.ref 60), none, some (.int x2), some (.int x3)]) (st1 := []) (σ1 := σ) rfl h10 ?_
      refine go_n 5 (f := (136, [some (.ref 60), none, some (.int x2), some (.int x3)], [], (wi σ 60 7 (x3 + 1)))) rfl ?_
      cases hf
      exact go_r rfl
    · rw [if_neg h10] at hf
      refine go_if (t := 129) (f := 101) (L1 := [some (.ref 60), none, some (.int x2), some (.int x3)]) (st1 := []) (σ1 := σ) rfl h10 ?_
      refine go_n 6 (f := (111, [some (.ref 60), none, some (.int x2), some (.int x3)], [.int x2, .int (gi σ 60 6), .int (gi σ 60 5), .int x3], σ)) rfl ?_
      obtain ⟨q11, h12, hf⟩ := bnd hf
      refine go_c (mid := 12039) (args := [.int (gi σ 60 5), .int (gi σ 60 6), .int x2]) (pc := 114) (L := [some (.ref 60), none, some (.int x2), some (.int x3)]) (st := [.int x3]) (σ := σ) rfl ((fX7_monthLong_ok _ _ _ _ q11 h12).deep (Nat.le_of_ble_eq_true rfl)) ?_
      refine go_n 8 (f := (126, [some (.ref 60), none, some (.int x2), some (.int (x3 - q11))], [], (wi σ 60 6 ((gi σ 60 6) + 1)))) rfl ?_
      refine go_n 1 (f := (85, [some (.ref 60), none, some (.int x2), some (.int (x3 - q11))], [], (wi σ 60 6 ((gi σ 60 6) + 1)))) rfl ?_
      exact hrec85 _ _ _ hf
def fX7_findDate_L20 (x2 : Int32)  (rec20 : (Int32 × Sg) → Option Sg) (s : Int32 × Sg) : Option Sg :=
  match s with
  | (x3, σ) => (fX7_isLong (gi σ 60 5) x2).bind fun q3 => ((fun (z6 : Int32) => if x3 < z6 then lp (fX7_findDate_L85 x2 ) N0 (x3, (wi σ 60 6 1)) else (fX7_isLong (gi σ 60 5) x2).bind fun q13 => ((fun (z16 : Int32) => rec20 ((x3 - z16), (wi σ 60 5 ((gi σ 60 5) + 1)))) ((if q13 = 0 then 365 else 366) : Int32))) ((if q3 = 0 then 365 else 366) : Int32))
set_option maxHeartbeats 1500000 in
theorem fX7_findDate_L20_ok (x2 : Int32)   : ∀ (n : Nat) (x3 : Int32) (σ : Sg) (r : Sg), lp (fX7_findDate_L20 x2 ) n (x3, σ) = some r → Go true 2 iX7_findDate (20, [some (.ref 60), none, some (.int x2), some (.int x3)], [], σ) (.inl none, r) := by
  intro n
  induction n with
  | zero => intro x3 σ r hf; cases hf
  | succ n ih =>
    intro x3 σ r hf
    have hf : fX7_findDate_L20 x2  (lp (fX7_findDate_L20 x2 ) n) (x3, σ) = some r := hf
    have hrec20 := ih
    generalize lp (fX7_findDate_L20 x2 ) n = rec20 at hf hrec20
    unfold fX7_findDate_L20 at hf
    dsimp only at hf
    refine go_n 4 (f := (26, [some (.ref 60), none, some (.int x2), some (.int x3)], [.int x2, .int (gi σ 60 5), .int x3], σ)) rfl ?_
    obtain ⟨q3, h4, hf⟩ := bnd hf
    refine go_c (mid := 12040) (args := [.int (gi σ 60 5), .int x2]) (pc := 29) (L := [some (.ref 60), none, some (.int x2), some (.int x3)]) (st := [.int x3]) (σ := σ) rfl ((fX7_isLong_ok _ _ _ q3 h4).deep (Nat.le_of_ble_eq_true rfl)) ?_
    refine go_m (f := (41, [some (.ref 60), none, some (.int x2), some (.int x3)], [.int ((if q3 = 0 then 365 else 366) : Int32), .int x3], σ)) ?_ (fun hJ18 => ?_)
    · generalize hz6 : ((if q3 = 0 then 365 else 366) : Int32) = z6 at hf ⊢
      try dsimp only at hf
      by_cases h7 : x3 < z6
      · rw [if_pos h7] at hf
        refine go_it (t := 80) (f := 44) (L1 := [some (.ref 60), none, some (.int x2), some (.int x3)]) (st1 := []) (σ1 := σ) rfl h7 ?_
        refine go_n 3 (f := (85, [some (.ref 60), none, some (.int x2), some (.int x3)], [], (wi σ 60 6 1))) rfl ?_
        exact fX7_findDate_L85_ok _   N0 _ _ _ hf
      · rw [if_neg h7] at hf
        refine go_if (t := 80) (f := 44) (L1 := [some (.ref 60), none, some (.int x2), some (.int x3)]) (st1 := []) (σ1 := σ) rfl h7 ?_
        refine go_n 4 (f := (50, [some (.ref 60), none, some (.int x2), some (.int x3)], [.int x2, .int (gi σ 60 5), .int x3], σ)) rfl ?_
        obtain ⟨q13, h14, hf⟩ := bnd hf
        refine go_c (mid := 12040) (args := [.int (gi σ 60 5), .int x2]) (pc := 53) (L := [some (.ref 60), none, some (.int x2), some (.int x3)]) (st := [.int x3]) (σ := σ) rfl ((fX7_isLong_ok _ _ _ q13 h14).deep (Nat.le_of_ble_eq_true rfl)) ?_
        refine go_m (f := (65, [some (.ref 60), none, some (.int x2), none], [.int ((if q13 = 0 then 365 else 366) : Int32), .int x3], σ)) ?_ (fun hJ17 => ?_)
        · generalize hz16 : ((if q13 = 0 then 365 else 366) : Int32) = z16 at hf ⊢
          try dsimp only at hf
          refine go_n 8 (f := (77, [some (.ref 60), none, some (.int x2), some (.int (x3 - z16))], [], (wi σ 60 5 ((gi σ 60 5) + 1)))) rfl ?_
          refine go_n 1 (f := (20, [some (.ref 60), none, some (.int x2), some (.int (x3 - z16))], [], (wi σ 60 5 ((gi σ 60 5) + 1)))) rfl ?_
          exact hrec20 _ _ _ hf
        · by_cases h15 : q13 = 0
          · refine go_it (t := 62) (f := 56) (L1 := [some (.ref 60), none, some (.int x2), some (.int x3)]) (st1 := [.int x3]) (σ1 := σ) rfl h15 ?_
            refine go_n 1 (f := (65, [some (.ref 60), none, some (.int x2), some (.int x3)], [.int 365, .int x3], σ)) rfl ?_
            refine go_e (L1 := [some (.ref 60), none, some (.int x2), none]) rfl rfl ?_
            simp only [if_pos h15] at hJ17
            first | exact hJ17 | (simp only [if_pos h15]; exact hJ17)
          · refine go_if (t := 62) (f := 56) (L1 := [some (.ref 60), none, some (.int x2), some (.int x3)]) (st1 := [.int x3]) (σ1 := σ) rfl h15 ?_
            refine go_n 2 (f := (65, [some (.ref 60), none, some (.int x2), some (.int x3)], [.int 366, .int x3], σ)) rfl ?_
            refine go_e (L1 := [some (.ref 60), none, some (.int x2), none]) rfl rfl ?_
            simp only [if_neg h15] at hJ17
            first | exact hJ17 | (simp only [if_neg h15]; exact hJ17)
    · by_cases h5 : q3 = 0
      · refine go_it (t := 38) (f := 32) (L1 := [some (.ref 60), none, some (.int x2), some (.int x3)]) (st1 := [.int x3]) (σ1 := σ) rfl h5 ?_
        refine go_n 1 (f := (41, [some (.ref 60), none, some (.int x2), some (.int x3)], [.int 365, .int x3], σ)) rfl ?_
        refine go_e (L1 := [some (.ref 60), none, some (.int x2), some (.int x3)]) rfl rfl ?_
        simp only [if_pos h5] at hJ18
        first | exact hJ18 | (simp only [if_pos h5]; exact hJ18)
      · refine go_if (t := 38) (f := 32) (L1 := [some (.ref 60), none, some (.int x2), some (.int x3)]) (st1 := [.int x3]) (σ1 := σ) rfl h5 ?_
        refine go_n 2 (f := (41, [some (.ref 60), none, some (.int x2), some (.int x3)], [.int 366, .int x3], σ)) rfl ?_
        refine go_e (L1 := [some (.ref 60), none, some (.int x2), some (.int x3)]) rfl rfl ?_
        simp only [if_neg h5] at hJ18
        first | exact hJ18 | (simp only [if_neg h5]; exact hJ18)
def fX7_findDate (x1 : Int32) (x2 : Int32) (σ : Sg) : Option Sg :=
  ((fun (z2 : Int32) => lp (fX7_findDate_L20 x2 ) N0 ((x1 - z2), (wi σ 60 5 1600))) ((if x2 ≠ 0 then 0 else 10) : Int32))
set_option maxHeartbeats 1500000 in
theorem fX7_findDate_ok (x1 : Int32) (x2 : Int32) (σ : Sg) (r : Sg) (hf : fX7_findDate x1 x2 σ = some r) : Cl true 2 12044 [.ref 60, .int x1, .int x2] σ (.inl none, r) := by
  refine ⟨iX7_findDate, rfl, Nat.le_of_ble_eq_true rfl, Nat.le_of_ble_eq_true rfl, ?_⟩
  show Go true 2 iX7_findDate (0, [some (.ref 60), some (.int x1), some (.int x2), none], [], σ) (.inl none, r)
  unfold fX7_findDate at hf
  refine go_n 2 (f := (2, [some (.ref 60), some (.int x1), some (.int x2), none], [.int x2, .int x1], σ)) rfl ?_
  refine go_m (f := (11, [some (.ref 60), none, some (.int x2), none], [.int ((if x2 ≠ 0 then 0 else 10) : Int32), .int x1], σ)) ?_ (fun hJ19 => ?_)
  · generalize hz2 : ((if x2 ≠ 0 then 0 else 10) : Int32) = z2 at hf ⊢
    try dsimp only at hf
    refine go_n 5 (f := (20, [some (.ref 60), none, some (.int x2), some (.int (x1 - z2))], [], (wi σ 60 5 1600))) rfl ?_
    exact fX7_findDate_L20_ok _   N0 _ _ _ hf
  · by_cases h1 : x2 ≠ 0
    · refine go_it (t := 10) (f := 5) (L1 := [some (.ref 60), some (.int x1), some (.int x2), none]) (st1 := [.int x1]) (σ1 := σ) rfl h1 ?_
      refine go_n 1 (f := (11, [some (.ref 60), some (.int x1), some (.int x2), none], [.int 0, .int x1], σ)) rfl ?_
      refine go_e (L1 := [some (.ref 60), none, some (.int x2), none]) rfl rfl ?_
      simp only [if_pos h1] at hJ19
      first | exact hJ19 | (simp only [if_pos h1]; exact hJ19)
    · refine go_if (t := 10) (f := 5) (L1 := [some (.ref 60), some (.int x1), some (.int x2), none]) (st1 := [.int x1]) (σ1 := σ) rfl h1 ?_
      refine go_n 2 (f := (11, [some (.ref 60), some (.int x1), some (.int x2), none], [.int 10, .int x1], σ)) rfl ?_
      refine go_e (L1 := [some (.ref 60), none, some (.int x2), none]) rfl rfl ?_
      simp only [if_neg h1] at hJ19
      first | exact hJ19 | (simp only [if_neg h1]; exact hJ19)
/-! OldWeatherModel.place(I)I -/
def fX7_place_L60 (x2 : Int32)  (rec60 : (Int32 × Sg) → Option (Int32 × Sg)) (s : Int32 × Sg) : Option (Int32 × Sg) :=
  match s with
  | (x3, σ) => if 12 ≤ x3 then (fX7_told (((gi σ 61 0) + 1) - 1) (wi σ 61 0 ((gi σ 61 0) + 1))).bind fun q9 => some (q9.1, q9.2) else if inb ((x2 + 1) + x3) 39698 then if inb ((x2 + 13) + x3) 39698 then ((fun (z14 : Int32) => if inb ((x2 + 25) + x3) 39698 then rec60 ((x3 + 1), (wi (wi (wi σ 61 ((x2 + 1) + x3).toNatClampNeg 0) 61 ((x2 + 13) + x3).toNatClampNeg 100) 61 ((x2 + 25) + x3).toNatClampNeg z14)) else none) ((if x3 ≠ (gi (wi (wi σ 61 ((x2 + 1) + x3).toNatClampNeg 0) 61 ((x2 + 13) + x3).toNatClampNeg 100) 61 0) then 0 else 100) : Int32)) else none else none
set_option maxHeartbeats 1500000 in
theorem fX7_place_L60_ok (x2 : Int32)   : ∀ (n : Nat) (x3 : Int32) (σ : Sg) (r : (Int32 × Sg)), lp (fX7_place_L60 x2 ) n (x3, σ) = some r → Go true 1 iX7_place (60, [some (.ref 60), none, some (.int x2), some (.int x3)], [], σ) (.inl (some (.int (r).1)), (r).2) := by
  intro n
  induction n with
  | zero => intro x3 σ r hf; cases hf
  | succ n ih =>
    intro x3 σ r hf
    have hf : fX7_place_L60 x2  (lp (fX7_place_L60 x2 ) n) (x3, σ) = some r := hf
    have hrec60 := ih
    generalize lp (fX7_place_L60 x2 ) n = rec60 at hf hrec60
    unfold fX7_place_L60 at hf
    dsimp only at hf
    refine go_n 2 (f := (63, [some (.ref 60), none, some (.int x2), some (.int x3)], [.int 12, .int x3], σ)) rfl ?_
    by_cases h8 : 12 ≤ x3
    · rw [if_pos h8] at hf
      refine go_it (t := 123) (f := 66) (L1 := [some (.ref 60), none, some (.int x2), some (.int x3)]) (st1 := []) (σ1 := σ) rfl h8 ?_
      refine go_n 10 (f := (135, [some (.ref 60), none, some (.int x2), some (.int x3)], [.ref 60, .ref 60], (wi σ 61 0 ((gi σ 61 0) + 1)))) rfl ?_
      refine go_n 5 (f := (142, [some (.ref 60), none, some (.int x2), some (.int x3)], [.int (((gi σ 61 0) + 1) - 1), .ref 60], (wi σ 61 0 ((gi σ 61 0) + 1)))) rfl ?_
      obtain ⟨q9, h10, hf⟩ := bnd hf
      refine go_c (mid := 12035) (args := [.ref 60, .int (((gi σ 61 0) + 1) - 1)]) (pc := 145) (L := [some (.ref 60), none, some (.int x2), some (.int x3)]) (st := []) (σ := (wi σ 61 0 ((gi σ 61 0) + 1))) rfl ((fX7_told_ok _ _ q9 h10).deep (Nat.le_of_ble_eq_true rfl)) ?_
      cases hf
      exact go_r rfl
    · rw [if_neg h8] at hf
      refine go_if (t := 123) (f := 66) (L1 := [some (.ref 60), none, some (.int x2), some (.int x3)]) (st1 := []) (σ1 := σ) rfl h8 ?_
      refine go_n 8 (f := (76, [some (.ref 60), none, some (.int x2), some (.int x3)], [.int 0, .int ((x2 + 1) + x3), .ref 61], σ)) rfl ?_
      obtain ⟨h11, hf⟩ := grd hf
      refine go_iast rfl rfl rfl h11 ?_
      refine go_n 8 (f := (89, [some (.ref 60), none, some (.int x2), some (.int x3)], [.int 100, .int ((x2 + 13) + x3), .ref 61], (wi σ 61 ((x2 + 1) + x3).toNatClampNeg 0))) rfl ?_
      obtain ⟨h12, hf⟩ := grd hf
      refine go_iast rfl rfl rfl h12 ?_
      refine go_n 10 (f := (105, [some (.ref 60), none, some (.int x2), some (.int x3)], [.ref 61, .int x3, .int ((x2 + 25) + x3), .ref 61], (wi (wi σ 61 ((x2 + 1) + x3).toNatClampNeg 0) 61 ((x2 + 13) + x3).toNatClampNeg 100))) rfl ?_
      refine go_n 2 (f := (107, [some (.ref 60), none, some (.int x2), some (.int x3)], [.int (gi (wi (wi σ 61 ((x2 + 1) + x3).toNatClampNeg 0) 61 ((x2 + 13) + x3).toNatClampNeg 100) 61 0), .int x3, .int ((x2 + 25) + x3), .ref 61], (wi (wi σ 61 ((x2 + 1) + x3).toNatClampNeg 0) 61 ((x2 + 13) + x3).toNatClampNeg 100))) rfl ?_
      refine go_m (f := (116, [some (.ref 60), none, some (.int x2), some (.int x3)], [.int ((if x3 ≠ (gi (wi (wi σ 61 ((x2 + 1) + x3).toNatClampNeg 0) 61 ((x2 + 13) + x3).toNatClampNeg 100) 61 0) then 0 else 100) : Int32), .int ((x2 + 25) + x3), .ref 61], (wi (wi σ 61 ((x2 + 1) + x3).toNatClampNeg 0) 61 ((x2 + 13) + x3).toNatClampNeg 100))) ?_ (fun hJ16 => ?_)
      · generalize hz14 : ((if x3 ≠ (gi (wi (wi σ 61 ((x2 + 1) + x3).toNatClampNeg 0) 61 ((x2 + 13) + x3).toNatClampNeg 100) 61 0) then 0 else 100) : Int32) = z14 at hf ⊢
        try dsimp only at hf
        obtain ⟨h15, hf⟩ := grd hf
        refine go_iast rfl rfl rfl h15 ?_
        refine go_n 2 (f := (60, [some (.ref 60), none, some (.int x2), some (.int (x3 + 1))], [], (wi (wi (wi σ 61 ((x2 + 1) + x3).toNatClampNeg 0) 61 ((x2 + 13) + x3).toNatClampNeg 100) 61 ((x2 + 25) + x3).toNatClampNeg z14))) rfl ?_
        exact hrec60 _ _ _ hf
      · by_cases h13 : x3 ≠ (gi (wi (wi σ 61 ((x2 + 1) + x3).toNatClampNeg 0) 61 ((x2 + 13) + x3).toNatClampNeg 100) 61 0)
        · refine go_it (t := 115) (f := 110) (L1 := [some (.ref 60), none, some (.int x2), some (.int x3)]) (st1 := [.int ((x2 + 25) + x3), .ref 61]) (σ1 := (wi (wi σ 61 ((x2 + 1) + x3).toNatClampNeg 0) 61 ((x2 + 13) + x3).toNatClampNeg 100)) rfl h13 ?_
          refine go_n 1 (f := (116, [some (.ref 60), none, some (.int x2), some (.int x3)], [.int 0, .int ((x2 + 25) + x3), .ref 61], (wi (wi σ 61 ((x2 + 1) + x3).toNatClampNeg 0) 61 ((x2 + 13) + x3).toNatClampNeg 100))) rfl ?_
          refine go_e (L1 := [some (.ref 60), none, some (.int x2), some (.int x3)]) rfl rfl ?_
          simp only [if_pos h13] at hJ16
          first | exact hJ16 | (simp only [if_pos h13]; exact hJ16)
        · refine go_if (t := 115) (f := 110) (L1 := [some (.ref 60), none, some (.int x2), some (.int x3)]) (st1 := [.int ((x2 + 25) + x3), .ref 61]) (σ1 := (wi (wi σ 61 ((x2 + 1) + x3).toNatClampNeg 0) 61 ((x2 + 13) + x3).toNatClampNeg 100)) rfl h13 ?_
          refine go_n 2 (f := (116, [some (.ref 60), none, some (.int x2), some (.int x3)], [.int 100, .int ((x2 + 25) + x3), .ref 61], (wi (wi σ 61 ((x2 + 1) + x3).toNatClampNeg 0) 61 ((x2 + 13) + x3).toNatClampNeg 100))) rfl ?_
          refine go_e (L1 := [some (.ref 60), none, some (.int x2), some (.int x3)]) rfl rfl ?_
          simp only [if_neg h13] at hJ16
          first | exact hJ16 | (simp only [if_neg h13]; exact hJ16)
def fX7_place (x1 : Int32) (σ : Sg) : Option (Int32 × Sg) :=
  (fX7_in x1.toInt64 0 4000).bind fun q1 => if q1 ≠ 0 then if (gi σ 61 0) ≠ 12 then (fX7_placeAt (gi σ 61 0)).bind fun q5 => if inb q5 39698 then lp (fX7_place_L60 q5 ) N0 (0, (wi (wi σ 60 0 0) 61 q5.toNatClampNeg x1)) else none else (fX7_told (-5) (wi σ 60 0 0)).bind fun q17 => some (q17.1, q17.2) else (fX7_told (-1) (wi σ 60 0 0)).bind fun q19 => some (q19.1, q19.2)
set_option maxHeartbeats 1500000 in
theorem fX7_place_ok (x1 : Int32) (σ : Sg) (r : (Int32 × Sg)) (hf : fX7_place x1 σ = some r) : Cl true 1 12045 [.ref 60, .int x1] σ (.inl (some (.int (r).1)), (r).2) := by
  refine ⟨iX7_place, rfl, Nat.le_of_ble_eq_true rfl, Nat.le_of_ble_eq_true rfl, ?_⟩
  show Go true 1 iX7_place (0, [some (.ref 60), some (.int x1), none, none], [], σ) (.inl (some (.int (r).1)), (r).2)
  unfold fX7_place at hf
  refine go_n 7 (f := (11, [some (.ref 60), some (.int x1), none, none], [.long 4000, .long 0, .long x1.toInt64], (wi σ 60 0 0))) rfl ?_
  obtain ⟨q1, h2, hf⟩ := bnd hf
  refine go_c (mid := 12034) (args := [.long x1.toInt64, .long 0, .long 4000]) (pc := 14) (L := [some (.ref 60), some (.int x1), none, none]) (st := []) (σ := (wi σ 60 0 0)) rfl ((fX7_in_ok _ _ _ _ q1 h2).deep (Nat.le_of_ble_eq_true rfl)) ?_
  by_cases h3 : q1 ≠ 0
  · rw [if_pos h3] at hf
    refine go_it (t := 23) (f := 17) (L1 := [some (.ref 60), some (.int x1), none, none]) (st1 := []) (σ1 := (wi σ 60 0 0)) rfl h3 ?_
    refine go_n 5 (f := (31, [some (.ref 60), some (.int x1), none, none], [.int 12, .int (gi σ 61 0)], (wi σ 60 0 0))) rfl ?_
    by_cases h4 : (gi σ 61 0) ≠ 12
    · rw [if_pos h4] at hf
      refine go_it (t := 41) (f := 34) (L1 := [some (.ref 60), some (.int x1), none, none]) (st1 := []) (σ1 := (wi σ 60 0 0)) rfl h4 ?_
      refine go_n 4 (f := (47, [some (.ref 60), some (.int x1), none, none], [.int (gi σ 61 0)], (wi σ 60 0 0))) rfl ?_
      obtain ⟨q5, h6, hf⟩ := bnd hf
      refine go_c (mid := 12046) (args := [.int (gi σ 61 0)]) (pc := 50) (L := [some (.ref 60), some (.int x1), none, none]) (st := []) (σ := (wi σ 60 0 0)) rfl ((fX7_placeAt_ok _ _ q5 h6).deep (Nat.le_of_ble_eq_true rfl)) ?_
      refine go_n 5 (f := (57, [some (.ref 60), some (.int x1), some (.int q5), none], [.int x1, .int q5, .ref 61], (wi σ 60 0 0))) rfl ?_
      obtain ⟨h7, hf⟩ := grd hf
      refine go_iast rfl rfl rfl h7 ?_
      refine go_n 2 (f := (60, [some (.ref 60), some (.int x1), some (.int q5), some (.int 0)], [], (wi (wi σ 60 0 0) 61 q5.toNatClampNeg x1))) rfl ?_
      refine go_e (L1 := [some (.ref 60), none, some (.int q5), some (.int 0)]) rfl rfl ?_
      exact fX7_place_L60_ok _   N0 _ _ _ hf
    · rw [if_neg h4] at hf
      refine go_if (t := 41) (f := 34) (L1 := [some (.ref 60), some (.int x1), none, none]) (st1 := []) (σ1 := (wi σ 60 0 0)) rfl h4 ?_
      refine go_n 2 (f := (37, [some (.ref 60), some (.int x1), none, none], [.int (-5), .ref 60], (wi σ 60 0 0))) rfl ?_
      obtain ⟨q17, h18, hf⟩ := bnd hf
      refine go_c (mid := 12035) (args := [.ref 60, .int (-5)]) (pc := 40) (L := [some (.ref 60), some (.int x1), none, none]) (st := []) (σ := (wi σ 60 0 0)) rfl ((fX7_told_ok _ _ q17 h18).deep (Nat.le_of_ble_eq_true rfl)) ?_
      cases hf
      exact go_r rfl
  · rw [if_neg h3] at hf
    refine go_if (t := 23) (f := 17) (L1 := [some (.ref 60), some (.int x1), none, none]) (st1 := []) (σ1 := (wi σ 60 0 0)) rfl h3 ?_
    refine go_n 2 (f := (19, [some (.ref 60), some (.int x1), none, none], [.int (-1), .ref 60], (wi σ 60 0 0))) rfl ?_
    obtain ⟨q19, h20, hf⟩ := bnd hf
    refine go_c (mid := 12035) (args := [.ref 60, .int (-1)]) (pc := 22) (L := [some (.ref 60), some (.int x1), none, none]) (st := []) (σ := (wi σ 60 0 0)) rfl ((fX7_told_ok _ _ q19 h20).deep (Nat.le_of_ble_eq_true rfl)) ?_
    cases hf
    exact go_r rfl
/-! OldWeatherModel.season(IIII)I -/
def fX7_season_J44   (σ : Sg) : Option (Int32 × Sg) :=
  (fX7_told (-1) σ).bind fun q4 => some (q4.1, q4.2)
set_option maxHeartbeats 1500000 in
theorem fX7_season_J44_ok   (σ : Sg)  (r : (Int32 × Sg)) (hf : fX7_season_J44   σ = some r) : Go true 2 iX7_season (44, [some (.ref 60), none, none, none, none], [], σ) (.inl (some (.int (r).1)), (r).2) := by
  unfold fX7_season_J44 at hf
  refine go_n 2 (f := (46, [some (.ref 60), none, none, none, none], [.int (-1), .ref 60], σ)) rfl ?_
  obtain ⟨q4, h5, hf⟩ := bnd hf
  refine go_c (mid := 12035) (args := [.ref 60, .int (-1)]) (pc := 49) (L := [some (.ref 60), none, none, none, none]) (st := []) (σ := σ) rfl ((fX7_told_ok _ _ q4 h5).deep (Nat.le_of_ble_eq_true rfl)) ?_
  cases hf
  exact go_r rfl
def fX7_season (x1 : Int32) (x2 : Int32) (x3 : Int32) (x4 : Int32) (σ : Sg) : Option (Int32 × Sg) :=
  (fX7_in x2.toInt64 1 12).bind fun q1 => if q1 = 0 then fX7_season_J44   (wi σ 60 0 0) else (fX7_in x3.toInt64 (-600) 600).bind fun q6 => if q6 = 0 then fX7_season_J44   (wi σ 60 0 0) else (fX7_in x4.toInt64 0 300).bind fun q9 => if q9 ≠ 0 then (fX7_isPlace x1 (wi σ 60 0 0)).bind fun q12 => if q12 ≠ 0 then (fX7_placeAt x1).bind fun q15 => if inb (q15 + x2) 39698 then (fX7_placeAt x1).bind fun q18 => if inb ((q18 + 12) + x2) 39698 then (fX7_told 0 (wi (wi (wi σ 60 0 0) 61 (q15 + x2).toNatClampNeg x3) 61 ((q18 + 12) + x2).toNatClampNeg x4)).bind fun q21 => some (q21.1, q21.2) else none else none else (fX7_told (-2) (wi σ 60 0 0)).bind fun q23 => some (q23.1, q23.2) else fX7_season_J44   (wi σ 60 0 0)
set_option maxHeartbeats 1500000 in
theorem fX7_season_ok (x1 : Int32) (x2 : Int32) (x3 : Int32) (x4 : Int32) (σ : Sg) (r : (Int32 × Sg)) (hf : fX7_season x1 x2 x3 x4 σ = some r) : Cl true 2 12047 [.ref 60, .int x1, .int x2, .int x3, .int x4] σ (.inl (some (.int (r).1)), (r).2) := by
  refine ⟨iX7_season, rfl, Nat.le_of_ble_eq_true rfl, Nat.le_of_ble_eq_true rfl, ?_⟩
  show Go true 2 iX7_season (0, [some (.ref 60), some (.int x1), some (.int x2), some (.int x3), some (.int x4)], [], σ) (.inl (some (.int (r).1)), (r).2)
  unfold fX7_season at hf
  refine go_n 7 (f := (11, [some (.ref 60), some (.int x1), some (.int x2), some (.int x3), some (.int x4)], [.long 12, .long 1, .long x2.toInt64], (wi σ 60 0 0))) rfl ?_
  obtain ⟨q1, h2, hf⟩ := bnd hf
  refine go_c (mid := 12034) (args := [.long x2.toInt64, .long 1, .long 12]) (pc := 14) (L := [some (.ref 60), some (.int x1), some (.int x2), some (.int x3), some (.int x4)]) (st := []) (σ := (wi σ 60 0 0)) rfl ((fX7_in_ok _ _ _ _ q1 h2).deep (Nat.le_of_ble_eq_true rfl)) ?_
  by_cases h3 : q1 = 0
  · rw [if_pos h3] at hf
    refine go_it (t := 44) (f := 17) (L1 := [some (.ref 60), some (.int x1), some (.int x2), some (.int x3), some (.int x4)]) (st1 := []) (σ1 := (wi σ 60 0 0)) rfl h3 ?_
    refine go_e (L1 := [some (.ref 60), none, none, none, none]) rfl rfl ?_
    exact fX7_season_J44_ok   _  _ hf
  · rw [if_neg h3] at hf
    refine go_if (t := 44) (f := 17) (L1 := [some (.ref 60), some (.int x1), some (.int x2), some (.int x3), some (.int x4)]) (st1 := []) (σ1 := (wi σ 60 0 0)) rfl h3 ?_
    refine go_n 4 (f := (25, [some (.ref 60), some (.int x1), some (.int x2), some (.int x3), some (.int x4)], [.long 600, .long (-600), .long x3.toInt64], (wi σ 60 0 0))) rfl ?_
    obtain ⟨q6, h7, hf⟩ := bnd hf
    refine go_c (mid := 12034) (args := [.long x3.toInt64, .long (-600), .long 600]) (pc := 28) (L := [some (.ref 60), some (.int x1), some (.int x2), some (.int x3), some (.int x4)]) (st := []) (σ := (wi σ 60 0 0)) rfl ((fX7_in_ok _ _ _ _ q6 h7).deep (Nat.le_of_ble_eq_true rfl)) ?_
    by_cases h8 : q6 = 0
    · rw [if_pos h8] at hf
      refine go_it (t := 44) (f := 31) (L1 := [some (.ref 60), some (.int x1), some (.int x2), some (.int x3), some (.int x4)]) (st1 := []) (σ1 := (wi σ 60 0 0)) rfl h8 ?_
      refine go_e (L1 := [some (.ref 60), none, none, none, none]) rfl rfl ?_
      exact fX7_season_J44_ok   _  _ hf
    · rw [if_neg h8] at hf
      refine go_if (t := 44) (f := 31) (L1 := [some (.ref 60), some (.int x1), some (.int x2), some (.int x3), some (.int x4)]) (st1 := []) (σ1 := (wi σ 60 0 0)) rfl h8 ?_
      refine go_n 4 (f := (38, [some (.ref 60), some (.int x1), some (.int x2), some (.int x3), some (.int x4)], [.long 300, .long 0, .long x4.toInt64], (wi σ 60 0 0))) rfl ?_
      obtain ⟨q9, h10, hf⟩ := bnd hf
      refine go_c (mid := 12034) (args := [.long x4.toInt64, .long 0, .long 300]) (pc := 41) (L := [some (.ref 60), some (.int x1), some (.int x2), some (.int x3), some (.int x4)]) (st := []) (σ := (wi σ 60 0 0)) rfl ((fX7_in_ok _ _ _ _ q9 h10).deep (Nat.le_of_ble_eq_true rfl)) ?_
      by_cases h11 : q9 ≠ 0
      · rw [if_pos h11] at hf
        refine go_it (t := 50) (f := 44) (L1 := [some (.ref 60), some (.int x1), some (.int x2), some (.int x3), some (.int x4)]) (st1 := []) (σ1 := (wi σ 60 0 0)) rfl h11 ?_
        refine go_n 2 (f := (52, [some (.ref 60), some (.int x1), some (.int x2), some (.int x3), some (.int x4)], [.int x1, .ref 60], (wi σ 60 0 0))) rfl ?_
        obtain ⟨q12, h13, hf⟩ := bnd hf
        refine go_c (mid := 12048) (args := [.ref 60, .int x1]) (pc := 55) (L := [some (.ref 60), some (.int x1), some (.int x2), some (.int x3), some (.int x4)]) (st := []) (σ := (wi σ 60 0 0)) rfl ((fX7_isPlace_ok _ _ q12 h13).deep (Nat.le_of_ble_eq_true rfl)) ?_
        by_cases h14 : q12 ≠ 0
        · rw [if_pos h14] at hf
          refine go_it (t := 65) (f := 58) (L1 := [some (.ref 60), some (.int x1), some (.int x2), some (.int x3), some (.int x4)]) (st1 := []) (σ1 := (wi σ 60 0 0)) rfl h14 ?_
          refine go_n 3 (f := (70, [some (.ref 60), some (.int x1), some (.int x2), some (.int x3), some (.int x4)], [.int x1, .ref 61], (wi σ 60 0 0))) rfl ?_
          obtain ⟨q15, h16, hf⟩ := bnd hf
          refine go_c (mid := 12046) (args := [.int x1]) (pc := 73) (L := [some (.ref 60), some (.int x1), some (.int x2), some (.int x3), some (.int x4)]) (st := [.ref 61]) (σ := (wi σ 60 0 0)) rfl ((fX7_placeAt_ok _ _ q15 h16).deep (Nat.le_of_ble_eq_true rfl)) ?_
          refine go_n 3 (f := (76, [some (.ref 60), some (.int x1), some (.int x2), some (.int x3), some (.int x4)], [.int x3, .int (q15 + x2), .ref 61], (wi σ 60 0 0))) rfl ?_
          obtain ⟨h17, hf⟩ := grd hf
          refine go_iast rfl rfl rfl h17 ?_
          refine go_n 3 (f := (82, [some (.ref 60), some (.int x1), some (.int x2), some (.int x3), some (.int x4)], [.int x1, .ref 61], (wi (wi σ 60 0 0) 61 (q15 + x2).toNatClampNeg x3))) rfl ?_
          obtain ⟨q18, h19, hf⟩ := bnd hf
          refine go_c (mid := 12046) (args := [.int x1]) (pc := 85) (L := [some (.ref 60), some (.int x1), some (.int x2), some (.int x3), some (.int x4)]) (st := [.ref 61]) (σ := (wi (wi σ 60 0 0) 61 (q15 + x2).toNatClampNeg x3)) rfl ((fX7_placeAt_ok _ _ q18 h19).deep (Nat.le_of_ble_eq_true rfl)) ?_
          refine go_n 5 (f := (92, [some (.ref 60), some (.int x1), some (.int x2), some (.int x3), some (.int x4)], [.int x4, .int ((q18 + 12) + x2), .ref 61], (wi (wi σ 60 0 0) 61 (q15 + x2).toNatClampNeg x3))) rfl ?_
          obtain ⟨h20, hf⟩ := grd hf
          refine go_iast rfl rfl rfl h20 ?_
          refine go_n 2 (f := (95, [some (.ref 60), some (.int x1), some (.int x2), some (.int x3), some (.int x4)], [.int 0, .ref 60], (wi (wi (wi σ 60 0 0) 61 (q15 + x2).toNatClampNeg x3) 61 ((q18 + 12) + x2).toNatClampNeg x4))) rfl ?_
          obtain ⟨q21, h22, hf⟩ := bnd hf
          refine go_c (mid := 12035) (args := [.ref 60, .int 0]) (pc := 98) (L := [some (.ref 60), some (.int x1), some (.int x2), some (.int x3), some (.int x4)]) (st := []) (σ := (wi (wi (wi σ 60 0 0) 61 (q15 + x2).toNatClampNeg x3) 61 ((q18 + 12) + x2).toNatClampNeg x4)) rfl ((fX7_told_ok _ _ q21 h22).deep (Nat.le_of_ble_eq_true rfl)) ?_
          cases hf
          exact go_r rfl
        · rw [if_neg h14] at hf
          refine go_if (t := 65) (f := 58) (L1 := [some (.ref 60), some (.int x1), some (.int x2), some (.int x3), some (.int x4)]) (st1 := []) (σ1 := (wi σ 60 0 0)) rfl h14 ?_
          refine go_n 2 (f := (61, [some (.ref 60), some (.int x1), some (.int x2), some (.int x3), some (.int x4)], [.int (-2), .ref 60], (wi σ 60 0 0))) rfl ?_
          obtain ⟨q23, h24, hf⟩ := bnd hf
          refine go_c (mid := 12035) (args := [.ref 60, .int (-2)]) (pc := 64) (L := [some (.ref 60), some (.int x1), some (.int x2), some (.int x3), some (.int x4)]) (st := []) (σ := (wi σ 60 0 0)) rfl ((fX7_told_ok _ _ q23 h24).deep (Nat.le_of_ble_eq_true rfl)) ?_
          cases hf
          exact go_r rfl
      · rw [if_neg h11] at hf
        refine go_if (t := 50) (f := 44) (L1 := [some (.ref 60), some (.int x1), some (.int x2), some (.int x3), some (.int x4)]) (st1 := []) (σ1 := (wi σ 60 0 0)) rfl h11 ?_
        refine go_e (L1 := [some (.ref 60), none, none, none, none]) rfl rfl ?_
        exact fX7_season_J44_ok   _  _ hf
/-! OldWeatherModel.source(II)I -/
def fX7_source (x1 : Int32) (x2 : Int32) (σ : Sg) : Option (Int32 × Sg) :=
  (fX7_in x1.toInt64 0 7).bind fun q1 => if q1 ≠ 0 then (fX7_isPlace x2 (wi σ 60 0 0)).bind fun q4 => if q4 ≠ 0 then if (gi σ 61 1) ≠ 16 then (fX7_addFour (464 + (4 * (gi σ 61 1))) x1 x2 (-1) (-1) (wi σ 60 0 0)).bind fun q8 => (fX7_told (((gi q8 61 1) + 1) - 1) (wi q8 61 1 ((gi q8 61 1) + 1))).bind fun q10 => some (q10.1, q10.2) else (fX7_told (-5) (wi σ 60 0 0)).bind fun q12 => some (q12.1, q12.2) else (fX7_told (-2) (wi σ 60 0 0)).bind fun q14 => some (q14.1, q14.2) else (fX7_told (-1) (wi σ 60 0 0)).bind fun q16 => some (q16.1, q16.2)
set_option maxHeartbeats 1500000 in
theorem fX7_source_ok (x1 : Int32) (x2 : Int32) (σ : Sg) (r : (Int32 × Sg)) (hf : fX7_source x1 x2 σ = some r) : Cl true 2 12050 [.ref 60, .int x1, .int x2] σ (.inl (some (.int (r).1)), (r).2) := by
  refine ⟨iX7_source, rfl, Nat.le_of_ble_eq_true rfl, Nat.le_of_ble_eq_true rfl, ?_⟩
  show Go true 2 iX7_source (0, [some (.ref 60), some (.int x1), some (.int x2)], [], σ) (.inl (some (.int (r).1)), (r).2)
  unfold fX7_source at hf
  refine go_n 7 (f := (11, [some (.ref 60), some (.int x1), some (.int x2)], [.long 7, .long 0, .long x1.toInt64], (wi σ 60 0 0))) rfl ?_
  obtain ⟨q1, h2, hf⟩ := bnd hf
  refine go_c (mid := 12034) (args := [.long x1.toInt64, .long 0, .long 7]) (pc := 14) (L := [some (.ref 60), some (.int x1), some (.int x2)]) (st := []) (σ := (wi σ 60 0 0)) rfl ((fX7_in_ok _ _ _ _ q1 h2).deep (Nat.le_of_ble_eq_true rfl)) ?_
  by_cases h3 : q1 ≠ 0
  · rw [if_pos h3] at hf
    refine go_it (t := 23) (f := 17) (L1 := [some (.ref 60), some (.int x1), some (.int x2)]) (st1 := []) (σ1 := (wi σ 60 0 0)) rfl h3 ?_
    refine go_n 2 (f := (25, [some (.ref 60), some (.int x1), some (.int x2)], [.int x2, .ref 60], (wi σ 60 0 0))) rfl ?_
    obtain ⟨q4, h5, hf⟩ := bnd hf
    refine go_c (mid := 12048) (args := [.ref 60, .int x2]) (pc := 28) (L := [some (.ref 60), some (.int x1), some (.int x2)]) (st := []) (σ := (wi σ 60 0 0)) rfl ((fX7_isPlace_ok _ _ q4 h5).deep (Nat.le_of_ble_eq_true rfl)) ?_
    by_cases h6 : q4 ≠ 0
    · rw [if_pos h6] at hf
      refine go_it (t := 38) (f := 31) (L1 := [some (.ref 60), some (.int x1), some (.int x2)]) (st1 := []) (σ1 := (wi σ 60 0 0)) rfl h6 ?_
      refine go_n 5 (f := (46, [some (.ref 60), some (.int x1), some (.int x2)], [.int 16, .int (gi σ 61 1)], (wi σ 60 0 0))) rfl ?_
      by_cases h7 : (gi σ 61 1) ≠ 16
      · rw [if_pos h7] at hf
        refine go_it (t := 56) (f := 49) (L1 := [some (.ref 60), some (.int x1), some (.int x2)]) (st1 := []) (σ1 := (wi σ 60 0 0)) rfl h7 ?_
        refine go_n 10 (f := (70, [some (.ref 60), some (.int x1), some (.int x2)], [.int x1, .int (464 + (4 * (gi σ 61 1))), .ref 60], (wi σ 60 0 0))) rfl ?_
        refine go_n 3 (f := (73, [some (.ref 60), some (.int x1), some (.int x2)], [.int (-1), .int (-1), .int x2, .int x1, .int (464 + (4 * (gi σ 61 1))), .ref 60], (wi σ 60 0 0))) rfl ?_
        obtain ⟨q8, h9, hf⟩ := bnd hf
        refine go_c (mid := 12051) (args := [.ref 60, .int (464 + (4 * (gi σ 61 1))), .int x1, .int x2, .int (-1), .int (-1)]) (pc := 76) (L := [some (.ref 60), some (.int x1), some (.int x2)]) (st := []) (σ := (wi σ 60 0 0)) rfl ((fX7_addFour_ok _ _ _ _ _ _ q8 h9).deep (Nat.le_of_ble_eq_true rfl)) ?_
        refine go_n 10 (f := (88, [some (.ref 60), some (.int x1), some (.int x2)], [.ref 60, .ref 60], (wi q8 61 1 ((gi q8 61 1) + 1)))) rfl ?_
        refine go_n 5 (f := (95, [some (.ref 60), some (.int x1), some (.int x2)], [.int (((gi q8 61 1) + 1) - 1), .ref 60], (wi q8 61 1 ((gi q8 61 1) + 1)))) rfl ?_
        obtain ⟨q10, h11, hf⟩ := bnd hf
        refine go_c (mid := 12035) (args := [.ref 60, .int (((gi q8 61 1) + 1) - 1)]) (pc := 98) (L := [some (.ref 60), some (.int x1), some (.int x2)]) (st := []) (σ := (wi q8 61 1 ((gi q8 61 1) + 1))) rfl ((fX7_told_ok _ _ q10 h11).deep (Nat.le_of_ble_eq_true rfl)) ?_
        cases hf
        exact go_r rfl
      · rw [if_neg h7] at hf
        refine go_if (t := 56) (f := 49) (L1 := [some (.ref 60), some (.int x1), some (.int x2)]) (st1 := []) (σ1 := (wi σ 60 0 0)) rfl h7 ?_
        refine go_n 2 (f := (52, [some (.ref 60), some (.int x1), some (.int x2)], [.int (-5), .ref 60], (wi σ 60 0 0))) rfl ?_
        obtain ⟨q12, h13, hf⟩ := bnd hf
        refine go_c (mid := 12035) (args := [.ref 60, .int (-5)]) (pc := 55) (L := [some (.ref 60), some (.int x1), some (.int x2)]) (st := []) (σ := (wi σ 60 0 0)) rfl ((fX7_told_ok _ _ q12 h13).deep (Nat.le_of_ble_eq_true rfl)) ?_
        cases hf
        exact go_r rfl
    · rw [if_neg h6] at hf
      refine go_if (t := 38) (f := 31) (L1 := [some (.ref 60), some (.int x1), some (.int x2)]) (st1 := []) (σ1 := (wi σ 60 0 0)) rfl h6 ?_
      refine go_n 2 (f := (34, [some (.ref 60), some (.int x1), some (.int x2)], [.int (-2), .ref 60], (wi σ 60 0 0))) rfl ?_
      obtain ⟨q14, h15, hf⟩ := bnd hf
      refine go_c (mid := 12035) (args := [.ref 60, .int (-2)]) (pc := 37) (L := [some (.ref 60), some (.int x1), some (.int x2)]) (st := []) (σ := (wi σ 60 0 0)) rfl ((fX7_told_ok _ _ q14 h15).deep (Nat.le_of_ble_eq_true rfl)) ?_
      cases hf
      exact go_r rfl
  · rw [if_neg h3] at hf
    refine go_if (t := 23) (f := 17) (L1 := [some (.ref 60), some (.int x1), some (.int x2)]) (st1 := []) (σ1 := (wi σ 60 0 0)) rfl h3 ?_
    refine go_n 2 (f := (19, [some (.ref 60), some (.int x1), some (.int x2)], [.int (-1), .ref 60], (wi σ 60 0 0))) rfl ?_
    obtain ⟨q16, h17, hf⟩ := bnd hf
    refine go_c (mid := 12035) (args := [.ref 60, .int (-1)]) (pc := 22) (L := [some (.ref 60), some (.int x1), some (.int x2)]) (st := []) (σ := (wi σ 60 0 0)) rfl ((fX7_told_ok _ _ q16 h17).deep (Nat.le_of_ble_eq_true rfl)) ?_
    cases hf
    exact go_r rfl
/-! OldWeatherModel.turn(II)I -/
def fX7_turn (x1 : Int32) (x2 : Int32) (σ : Sg) : Option (Int32 × Sg) :=
  (fX7_in x2.toInt64 0 110000).bind fun q1 => if q1 ≠ 0 then (fX7_isSource x1 (wi σ 60 0 0)).bind fun q4 => if q4 ≠ 0 then if inb ((464 + (4 * x1)) + 2) 39698 then if (gi σ 61 ((464 + (4 * x1)) + 2).toNatClampNeg) = (-1) then if inb ((464 + (4 * x1)) + 2) 39698 then (fX7_told 0 (wi (wi σ 60 0 0) 61 ((464 + (4 * x1)) + 2).toNatClampNeg x2)).bind fun q10 => some (q10.1, q10.2) else none else (fX7_told (-4) (wi σ 60 0 0)).bind fun q12 => some (q12.1, q12.2) else none else (fX7_told (-2) (wi σ 60 0 0)).bind fun q14 => some (q14.1, q14.2) else (fX7_told (-1) (wi σ 60 0 0)).bind fun q16 => some (q16.1, q16.2)
set_option maxHeartbeats 1500000 in
theorem fX7_turn_ok (x1 : Int32) (x2 : Int32) (σ : Sg) (r : (Int32 × Sg)) (hf : fX7_turn x1 x2 σ = some r) : Cl true 2 12052 [.ref 60, .int x1, .int x2] σ (.inl (some (.int (r).1)), (r).2) := by
  refine ⟨iX7_turn, rfl, Nat.le_of_ble_eq_true rfl, Nat.le_of_ble_eq_true rfl, ?_⟩
  show Go true 2 iX7_turn (0, [some (.ref 60), some (.int x1), some (.int x2)], [], σ) (.inl (some (.int (r).1)), (r).2)
  unfold fX7_turn at hf
  refine go_n 7 (f := (11, [some (.ref 60), some (.int x1), some (.int x2)], [.long 110000, .long 0, .long x2.toInt64], (wi σ 60 0 0))) rfl ?_
  obtain ⟨q1, h2, hf⟩ := bnd hf
  refine go_c (mid := 12034) (args := [.long x2.toInt64, .long 0, .long 110000]) (pc := 14) (L := [some (.ref 60), some (.int x1), some (.int x2)]) (st := []) (σ := (wi σ 60 0 0)) rfl ((fX7_in_ok _ _ _ _ q1 h2).deep (Nat.le_of_ble_eq_true rfl)) ?_
  by_cases h3 : q1 ≠ 0
  · rw [if_pos h3] at hf
    refine go_it (t := 23) (f := 17) (L1 := [some (.ref 60), some (.int x1), some (.int x2)]) (st1 := []) (σ1 := (wi σ 60 0 0)) rfl h3 ?_
    refine go_n 2 (f := (25, [some (.ref 60), some (.int x1), some (.int x2)], [.int x1, .ref 60], (wi σ 60 0 0))) rfl ?_
    obtain ⟨q4, h5, hf⟩ := bnd hf
    refine go_c (mid := 12053) (args := [.ref 60, .int x1]) (pc := 28) (L := [some (.ref 60), some (.int x1), some (.int x2)]) (st := []) (σ := (wi σ 60 0 0)) rfl ((fX7_isSource_ok _ _ q4 h5).deep (Nat.le_of_ble_eq_true rfl)) ?_
    by_cases h6 : q4 ≠ 0
    · rw [if_pos h6] at hf
      refine go_it (t := 38) (f := 31) (L1 := [some (.ref 60), some (.int x1), some (.int x2)]) (st1 := []) (σ1 := (wi σ 60 0 0)) rfl h6 ?_
      refine go_n 9 (f := (51, [some (.ref 60), some (.int x1), some (.int x2)], [.int ((464 + (4 * x1)) + 2), .ref 61], (wi σ 60 0 0))) rfl ?_
      obtain ⟨h7, hf⟩ := grd hf
      refine go_iald rfl rfl rfl h7 ?_
      refine go_n 1 (f := (53, [some (.ref 60), some (.int x1), some (.int x2)], [.int (-1), .int (gi σ 61 ((464 + (4 * x1)) + 2).toNatClampNeg)], (wi σ 60 0 0))) rfl ?_
      by_cases h8 : (gi σ 61 ((464 + (4 * x1)) + 2).toNatClampNeg) = (-1)
      · rw [if_pos h8] at hf
        refine go_it (t := 63) (f := 56) (L1 := [some (.ref 60), some (.int x1), some (.int x2)]) (st1 := []) (σ1 := (wi σ 60 0 0)) rfl h8 ?_
        refine go_n 10 (f := (77, [some (.ref 60), some (.int x1), some (.int x2)], [.int x2, .int ((464 + (4 * x1)) + 2), .ref 61], (wi σ 60 0 0))) rfl ?_
        obtain ⟨h9, hf⟩ := grd hf
        refine go_iast rfl rfl rfl h9 ?_
        refine go_n 2 (f := (80, [some (.ref 60), some (.int x1), some (.int x2)], [.int 0, .ref 60], (wi (wi σ 60 0 0) 61 ((464 + (4 * x1)) + 2).toNatClampNeg x2))) rfl ?_
        obtain ⟨q10, h11, hf⟩ := bnd hf
        refine go_c (mid := 12035) (args := [.ref 60, .int 0]) (pc := 83) (L := [some (.ref 60), some (.int x1), some (.int x2)]) (st := []) (σ := (wi (wi σ 60 0 0) 61 ((464 + (4 * x1)) + 2).toNatClampNeg x2)) rfl ((fX7_told_ok _ _ q10 h11).deep (Nat.le_of_ble_eq_true rfl)) ?_
        cases hf
        exact go_r rfl
      · rw [if_neg h8] at hf
        refine go_if (t := 63) (f := 56) (L1 := [some (.ref 60), some (.int x1), some (.int x2)]) (st1 := []) (σ1 := (wi σ 60 0 0)) rfl h8 ?_
        refine go_n 2 (f := (59, [some (.ref 60), some (.int x1), some (.int x2)], [.int (-4), .ref 60], (wi σ 60 0 0))) rfl ?_
        obtain ⟨q12, h13, hf⟩ := bnd hf
        refine go_c (mid := 12035) (args := [.ref 60, .int (-4)]) (pc := 62) (L := [some (.ref 60), some (.int x1), some (.int x2)]) (st := []) (σ := (wi σ 60 0 0)) rfl ((fX7_told_ok _ _ q12 h13).deep (Nat.le_of_ble_eq_true rfl)) ?_
        cases hf
        exact go_r rfl
    · rw [if_neg h6] at hf
      refine go_if (t := 38) (f := 31) (L1 := [some (.ref 60), some (.int x1), some (.int x2)]) (st1 := []) (σ1 := (wi σ 60 0 0)) rfl h6 ?_
      refine go_n 2 (f := (34, [some (.ref 60), some (.int x1), some (.int x2)], [.int (-2), .ref 60], (wi σ 60 0 0))) rfl ?_
      obtain ⟨q14, h15, hf⟩ := bnd hf
      refine go_c (mid := 12035) (args := [.ref 60, .int (-2)]) (pc := 37) (L := [some (.ref 60), some (.int x1), some (.int x2)]) (st := []) (σ := (wi σ 60 0 0)) rfl ((fX7_told_ok _ _ q14 h15).deep (Nat.le_of_ble_eq_true rfl)) ?_
      cases hf
      exact go_r rfl
  · rw [if_neg h3] at hf
    refine go_if (t := 23) (f := 17) (L1 := [some (.ref 60), some (.int x1), some (.int x2)]) (st1 := []) (σ1 := (wi σ 60 0 0)) rfl h3 ?_
    refine go_n 2 (f := (19, [some (.ref 60), some (.int x1), some (.int x2)], [.int (-1), .ref 60], (wi σ 60 0 0))) rfl ?_
    obtain ⟨q16, h17, hf⟩ := bnd hf
    refine go_c (mid := 12035) (args := [.ref 60, .int (-1)]) (pc := 22) (L := [some (.ref 60), some (.int x1), some (.int x2)]) (st := []) (σ := (wi σ 60 0 0)) rfl ((fX7_told_ok _ _ q16 h17).deep (Nat.le_of_ble_eq_true rfl)) ?_
    cases hf
    exact go_r rfl
/-! OldWeatherModel.sourceOf(I)I -/
def fX7_sourceOf (x1 : Int32) (σ : Sg) : Option Int32 :=
  (fX7_get x1 1 σ).bind fun q1 => some q1
set_option maxHeartbeats 1500000 in
theorem fX7_sourceOf_ok (x1 : Int32) (σ : Sg) (r : Int32) (hf : fX7_sourceOf x1 σ = some r) : Cl true 1 12066 [.ref 60, .int x1] σ (.inl (some (.int r)), σ) := by
  refine ⟨iX7_sourceOf, rfl, Nat.le_of_ble_eq_true rfl, Nat.le_of_ble_eq_true rfl, ?_⟩
  show Go true 1 iX7_sourceOf (0, [some (.ref 60), some (.int x1)], [], σ) (.inl (some (.int r)), σ)
  unfold fX7_sourceOf at hf
  refine go_n 3 (f := (3, [some (.ref 60), some (.int x1)], [.int 1, .int x1, .ref 60], σ)) rfl ?_
  obtain ⟨q1, h2, hf⟩ := bnd hf
  refine go_c (mid := 12067) (args := [.ref 60, .int x1, .int 1]) (pc := 6) (L := [some (.ref 60), some (.int x1)]) (st := []) (σ := σ) rfl ((fX7_get_ok _ _ _ q1 h2).deep (Nat.le_of_ble_eq_true rfl)) ?_
  cases hf
  exact go_r rfl
/-! OldWeatherModel.dayOn(I)V -/
def fX7_dayOn_J44   (σ : Sg) : Option Sg :=
  if (gi σ 60 6) ≤ 12 then some σ else some (wi (wi σ 60 6 1) 60 5 ((gi σ 60 5) + 1))
set_option maxHeartbeats 1500000 in
theorem fX7_dayOn_J44_ok   (σ : Sg)  (r : Sg) (hf : fX7_dayOn_J44   σ = some r) : Go true 2 iX7_dayOn (44, [some (.ref 60), none], [], σ) (.inl none, r) := by
  unfold fX7_dayOn_J44 at hf
  refine go_n 3 (f := (50, [some (.ref 60), none], [.int 12, .int (gi σ 60 6)], σ)) rfl ?_
  by_cases h4 : (gi σ 60 6) ≤ 12
  · rw [if_pos h4] at hf
    refine go_it (t := 68) (f := 53) (L1 := [some (.ref 60), none]) (st1 := []) (σ1 := σ) rfl h4 ?_
    refine go_e (L1 := [none, none]) rfl rfl ?_
    cases hf
    exact go_r rfl
  · rw [if_neg h4] at hf
    refine go_if (t := 68) (f := 53) (L1 := [some (.ref 60), none]) (st1 := []) (σ1 := σ) rfl h4 ?_
    refine go_n 9 (f := (68, [some (.ref 60), none], [], (wi (wi σ 60 6 1) 60 5 ((gi σ 60 5) + 1)))) rfl ?_
    refine go_e (L1 := [none, none]) rfl rfl ?_
    cases hf
    exact go_r rfl
def fX7_dayOn (x1 : Int32) (σ : Sg) : Option Sg :=
  (fX7_monthLong (gi σ 60 5) (gi σ 60 6) x1).bind fun q1 => if ((gi σ 60 7) + 1) ≤ q1 then fX7_dayOn_J44   (wi σ 60 7 ((gi σ 60 7) + 1)) else fX7_dayOn_J44   (wi (wi (wi σ 60 7 ((gi σ 60 7) + 1)) 60 7 1) 60 6 ((gi σ 60 6) + 1))
set_option maxHeartbeats 1500000 in
theorem fX7_dayOn_ok (x1 : Int32) (σ : Sg) (r : Sg) (hf : fX7_dayOn x1 σ = some r) : Cl true 2 12073 [.ref 60, .int x1] σ (.inl none, r) := by
  refine ⟨iX7_dayOn, rfl, Nat.le_of_ble_eq_true rfl, Nat.le_of_ble_eq_true rfl, ?_⟩
  show Go true 2 iX7_dayOn (0, [some (.ref 60), some (.int x1)], [], σ) (.inl none, r)
  unfold fX7_dayOn at hf
  refine go_n 10 (f := (18, [some (.ref 60), some (.int x1)], [.int (gi σ 60 5), .int ((gi σ 60 7) + 1)], (wi σ 60 7 ((gi σ 60 7) + 1)))) rfl ?_
  refine go_n 3 (f := (23, [some (.ref 60), some (.int x1)], [.int x1, .int (gi σ 60 6), .int (gi σ 60 5), .int ((gi σ 60 7) + 1)], (wi σ 60 7 ((gi σ 60 7) + 1)))) rfl ?_
  obtain ⟨q1, h2, hf⟩ := bnd hf
  refine go_c (mid := 12039) (args := [.int (gi σ 60 5), .int (gi σ 60 6), .int x1]) (pc := 26) (L := [some (.ref 60), some (.int x1)]) (st := [.int ((gi σ 60 7) + 1)]) (σ := (wi σ 60 7 ((gi σ 60 7) + 1))) rfl ((fX7_monthLong_ok _ _ _ _ q1 h2).deep (Nat.le_of_ble_eq_true rfl)) ?_
  by_cases h3 : ((gi σ 60 7) + 1) ≤ q1
  · rw [if_pos h3] at hf
    refine go_it (t := 44) (f := 29) (L1 := [some (.ref 60), some (.int x1)]) (st1 := []) (σ1 := (wi σ 60 7 ((gi σ 60 7) + 1))) rfl h3 ?_
    refine go_e (L1 := [some (.ref 60), none]) rfl rfl ?_
    exact fX7_dayOn_J44_ok   _  _ hf
  · rw [if_neg h3] at hf
    refine go_if (t := 44) (f := 29) (L1 := [some (.ref 60), some (.int x1)]) (st1 := []) (σ1 := (wi σ 60 7 ((gi σ 60 7) + 1))) rfl h3 ?_
    refine go_n 9 (f := (44, [some (.ref 60), some (.int x1)], [], (wi (wi (wi σ 60 7 ((gi σ 60 7) + 1)) 60 7 1) 60 6 ((gi σ 60 6) + 1)))) rfl ?_
    refine go_e (L1 := [some (.ref 60), none]) rfl rfl ?_
    exact fX7_dayOn_J44_ok   _  _ hf
/-! OldWeatherModel.feed(IIIII)I -/
def fX7_feed (x1 : Int32) (x2 : Int32) (x3 : Int32) (x4 : Int32) (x5 : Int32) (σ : Sg) : Option (Int32 × Sg) :=
  if ((gi σ 60 14) + 20) ≤ 400 then (fX7_four x1 (wi σ 60 0 0)).bind fun q2 => (fX7_four x2 q2).bind fun q4 => (fX7_four x3 q4).bind fun q6 => (fX7_four x4 q6).bind fun q8 => (fX7_four x5 q8).bind fun q10 => some ((gi q10 60 14), q10) else some ((-1), (wi σ 60 0 0))
set_option maxHeartbeats 1500000 in
theorem fX7_feed_ok (x1 : Int32) (x2 : Int32) (x3 : Int32) (x4 : Int32) (x5 : Int32) (σ : Sg) (r : (Int32 × Sg)) (hf : fX7_feed x1 x2 x3 x4 x5 σ = some r) : Cl true 1 12074 [.ref 60, .int x1, .int x2, .int x3, .int x4, .int x5] σ (.inl (some (.int (r).1)), (r).2) := by
  refine ⟨iX7_feed, rfl, Nat.le_of_ble_eq_true rfl, Nat.le_of_ble_eq_true rfl, ?_⟩
  show Go true 1 iX7_feed (0, [some (.ref 60), some (.int x1), some (.int x2), some (.int x3), some (.int x4), some (.int x5)], [], σ) (.inl (some (.int (r).1)), (r).2)
  unfold fX7_feed at hf
  refine go_n 8 (f := (15, [some (.ref 60), some (.int x1), some (.int x2), some (.int x3), some (.int x4), some (.int x5)], [.int 400, .int ((gi σ 60 14) + 20)], (wi σ 60 0 0))) rfl ?_
  by_cases h1 : ((gi σ 60 14) + 20) ≤ 400
  · rw [if_pos h1] at hf
    refine go_it (t := 20) (f := 18) (L1 := [some (.ref 60), some (.int x1), some (.int x2), some (.int x3), some (.int x4), some (.int x5)]) (st1 := []) (σ1 := (wi σ 60 0 0)) rfl h1 ?_
    refine go_n 2 (f := (22, [some (.ref 60), some (.int x1), some (.int x2), some (.int x3), some (.int x4), some (.int x5)], [.int x1, .ref 60], (wi σ 60 0 0))) rfl ?_
    obtain ⟨q2, h3, hf⟩ := bnd hf
    refine go_c (mid := 12075) (args := [.ref 60, .int x1]) (pc := 25) (L := [some (.ref 60), some (.int x1), some (.int x2), some (.int x3), some (.int x4), some (.int x5)]) (st := []) (σ := (wi σ 60 0 0)) rfl ((fX7_four_ok _ _ q2 h3).deep (Nat.le_of_ble_eq_true rfl)) ?_
    refine go_n 2 (f := (27, [some (.ref 60), some (.int x1), some (.int x2), some (.int x3), some (.int x4), some (.int x5)], [.int x2, .ref 60], q2)) rfl ?_
    obtain ⟨q4, h5, hf⟩ := bnd hf
    refine go_c (mid := 12075) (args := [.ref 60, .int x2]) (pc := 30) (L := [some (.ref 60), some (.int x1), some (.int x2), some (.int x3), some (.int x4), some (.int x5)]) (st := []) (σ := q2) rfl ((fX7_four_ok _ _ q4 h5).deep (Nat.le_of_ble_eq_true rfl)) ?_
    refine go_n 2 (f := (32, [some (.ref 60), some (.int x1), some (.int x2), some (.int x3), some (.int x4), some (.int x5)], [.int x3, .ref 60], q4)) rfl ?_
    obtain ⟨q6, h7, hf⟩ := bnd hf
    refine go_c (mid := 12075) (args := [.ref 60, .int x3]) (pc := 35) (L := [some (.ref 60), some (.int x1), some (.int x2), some (.int x3), some (.int x4), some (.int x5)]) (st := []) (σ := q4) rfl ((fX7_four_ok _ _ q6 h7).deep (Nat.le_of_ble_eq_true rfl)) ?_
    refine go_n 2 (f := (38, [some (.ref 60), some (.int x1), some (.int x2), some (.int x3), some (.int x4), some (.int x5)], [.int x4, .ref 60], q6)) rfl ?_
    obtain ⟨q8, h9, hf⟩ := bnd hf
    refine go_c (mid := 12075) (args := [.ref 60, .int x4]) (pc := 41) (L := [some (.ref 60), some (.int x1), some (.int x2), some (.int x3), some (.int x4), some (.int x5)]) (st := []) (σ := q6) rfl ((fX7_four_ok _ _ q8 h9).deep (Nat.le_of_ble_eq_true rfl)) ?_
    refine go_n 2 (f := (44, [some (.ref 60), some (.int x1), some (.int x2), some (.int x3), some (.int x4), some (.int x5)], [.int x5, .ref 60], q8)) rfl ?_
    obtain ⟨q10, h11, hf⟩ := bnd hf
    refine go_c (mid := 12075) (args := [.ref 60, .int x5]) (pc := 47) (L := [some (.ref 60), some (.int x1), some (.int x2), some (.int x3), some (.int x4), some (.int x5)]) (st := []) (σ := q8) rfl ((fX7_four_ok _ _ q10 h11).deep (Nat.le_of_ble_eq_true rfl)) ?_
    refine go_n 2 (f := (51, [some (.ref 60), some (.int x1), some (.int x2), some (.int x3), some (.int x4), some (.int x5)], [.int (gi q10 60 14)], q10)) rfl ?_
    cases hf
    exact go_r rfl
  · rw [if_neg h1] at hf
    refine go_if (t := 20) (f := 18) (L1 := [some (.ref 60), some (.int x1), some (.int x2), some (.int x3), some (.int x4), some (.int x5)]) (st1 := []) (σ1 := (wi σ 60 0 0)) rfl h1 ?_
    refine go_n 1 (f := (19, [some (.ref 60), some (.int x1), some (.int x2), some (.int x3), some (.int x4), some (.int x5)], [.int (-1)], (wi σ 60 0 0))) rfl ?_
    cases hf
    exact go_r rfl
/-! OldWeatherModel.next()V -/
def fX7_next_J319 (s0 : Int64) (rec243 : Sg → Option Sg) (σ : Sg) : Option Sg :=
  rec243 (wi (wl σ 60 18 s0) 60 16 ((gi σ 60 16) + 1))
set_option maxHeartbeats 1500000 in
theorem fX7_next_J319_ok (s0 : Int64) (rec243 : Sg → Option Sg) (σ : Sg) (hrec243 : ∀ (τ : Sg) (r : Sg), rec243 τ = some r → Go true 1 iX7_next (243, [some (.ref 60)], [], τ) (.inl none, r)) (r : Sg) (hf : fX7_next_J319 s0 rec243 σ = some r) : Go true 1 iX7_next (319, [some (.ref 60)], [.long s0, .ref 60], σ) (.inl none, r) := by
  unfold fX7_next_J319 at hf
  refine go_n 7 (f := (332, [some (.ref 60)], [], (wi (wl σ 60 18 s0) 60 16 ((gi σ 60 16) + 1)))) rfl ?_
  refine go_n 1 (f := (243, [some (.ref 60)], [], (wi (wl σ 60 18 s0) 60 16 ((gi σ 60 16) + 1)))) rfl ?_
  exact hrec243 _ _ hf
def fX7_next_L243   (rec243 : Sg → Option Sg) (σ : Sg) : Option Sg :=
  if (gi σ 60 17) ≠ 2 then some σ else if (gi σ 60 14) ≤ (gi σ 60 16) then some σ else if inb (gi σ 60 16) 400 then (fX7_isDigit (gi σ 66 (gi σ 60 16).toNatClampNeg)).bind fun q17 => if q17 = 0 then some σ else if (gl σ 60 18) ≤ 100000 then if inb (gi σ 60 16) 400 then fX7_next_J319 ((((gl σ 60 18) * 10) + (gi σ 66 (gi σ 60 16).toNatClampNeg).toInt64) - 48) rec243 σ else none else fX7_next_J319 (gl σ 60 18) rec243 σ else none
set_option maxHeartbeats 1500000 in
theorem fX7_next_L243_ok    : ∀ (n : Nat) (σ : Sg) (r : Sg), lp (fX7_next_L243  ) n σ = some r → Go true 1 iX7_next (243, [some (.ref 60)], [], σ) (.inl none, r) := by
  intro n
  induction n with
  | zero => intro σ r hf; cases hf
  | succ n ih =>
    intro σ r hf
    have hf : fX7_next_L243   (lp (fX7_next_L243  ) n) σ = some r := hf
    have hrec243 := ih
    generalize lp (fX7_next_L243  ) n = rec243 at hf hrec243
    unfold fX7_next_L243 at hf
    refine go_n 3 (f := (248, [some (.ref 60)], [.int 2, .int (gi σ 60 17)], σ)) rfl ?_
    by_cases h14 : (gi σ 60 17) ≠ 2
    · rw [if_pos h14] at hf
      refine go_it (t := 335) (f := 251) (L1 := [some (.ref 60)]) (st1 := []) (σ1 := σ) rfl h14 ?_
      refine go_e (L1 := [none]) rfl rfl ?_
      cases hf
      exact go_r rfl
    · rw [if_neg h14] at hf
      refine go_if (t := 335) (f := 251) (L1 := [some (.ref 60)]) (st1 := []) (σ1 := σ) rfl h14 ?_
      refine go_n 4 (f := (259, [some (.ref 60)], [.int (gi σ 60 14), .int (gi σ 60 16)], σ)) rfl ?_
      by_cases h15 : (gi σ 60 14) ≤ (gi σ 60 16)
      · rw [if_pos h15] at hf
        refine go_it (t := 335) (f := 262) (L1 := [some (.ref 60)]) (st1 := []) (σ1 := σ) rfl h15 ?_
        refine go_e (L1 := [none]) rfl rfl ?_
        cases hf
        exact go_r rfl
      · rw [if_neg h15] at hf
        refine go_if (t := 335) (f := 262) (L1 := [some (.ref 60)]) (st1 := []) (σ1 := σ) rfl h15 ?_
        refine go_n 4 (f := (270, [some (.ref 60)], [.int (gi σ 60 16), .ref 66], σ)) rfl ?_
        obtain ⟨h16, hf⟩ := grd hf
        refine go_iald rfl rfl rfl h16 ?_
        obtain ⟨q17, h18, hf⟩ := bnd hf
        refine go_c (mid := 12082) (args := [.int (gi σ 66 (gi σ 60 16).toNatClampNeg)]) (pc := 274) (L := [some (.ref 60)]) (st := []) (σ := σ) rfl ((fX7_isDigit_ok _ _ q17 h18).deep (Nat.le_of_ble_eq_true rfl)) ?_
        by_cases h19 : q17 = 0
        · rw [if_pos h19] at hf
          refine go_it (t := 335) (f := 277) (L1 := [some (.ref 60)]) (st1 := []) (σ1 := σ) rfl h19 ?_
          refine go_e (L1 := [none]) rfl rfl ?_
          cases hf
          exact go_r rfl
        · rw [if_neg h19] at hf
          refine go_if (t := 335) (f := 277) (L1 := [some (.ref 60)]) (st1 := []) (σ1 := σ) rfl h19 ?_
          refine go_n 5 (f := (286, [some (.ref 60)], [.int (lg_cmp (gl σ 60 18) 100000), .ref 60], σ)) rfl ?_
          by_cases h20 : (gl σ 60 18) ≤ 100000
          · rw [if_pos h20] at hf
            refine go_it (t := 296) (f := 289) (L1 := [some (.ref 60)]) (st1 := [.ref 60]) (σ1 := σ) rfl ((lgc_le (gl σ 60 18) 100000).mpr h20) ?_
            refine go_n 8 (f := (312, [some (.ref 60)], [.int (gi σ 60 16), .ref 66, .long ((gl σ 60 18) * 10), .ref 60], σ)) rfl ?_
            obtain ⟨h21, hf⟩ := grd hf
            refine go_iald rfl rfl rfl h21 ?_
            refine go_n 4 (f := (319, [some (.ref 60)], [.long ((((gl σ 60 18) * 10) + (gi σ 66 (gi σ 60 16).toNatClampNeg).toInt64) - 48), .ref 60], σ)) rfl ?_
            exact fX7_next_J319_ok _ _ _ hrec243 _ hf
          · rw [if_neg h20] at hf
            refine go_if (t := 296) (f := 289) (L1 := [some (.ref 60)]) (st1 := [.ref 60]) (σ1 := σ) rfl (fun q => h20 ((lgc_le (gl σ 60 18) 100000).mp q)) ?_
            refine go_n 3 (f := (319, [some (.ref 60)], [.long (gl σ 60 18), .ref 60], σ)) rfl ?_
            exact fX7_next_J319_ok _ _ _ hrec243 _ hf
def fX7_next_J227 (s0 : Int64) (rec149 : Sg → Option Sg) (σ : Sg) : Option Sg :=
  rec149 (wi (wl σ 60 18 s0) 60 16 ((gi σ 60 16) + 1))
set_option maxHeartbeats 1500000 in
theorem fX7_next_J227_ok (s0 : Int64) (rec149 : Sg → Option Sg) (σ : Sg) (hrec149 : ∀ (τ : Sg) (r : Sg), rec149 τ = some r → Go true 1 iX7_next (149, [some (.ref 60)], [], τ) (.inl none, r)) (r : Sg) (hf : fX7_next_J227 s0 rec149 σ = some r) : Go true 1 iX7_next (227, [some (.ref 60)], [.long s0, .ref 60], σ) (.inl none, r) := by
  unfold fX7_next_J227 at hf
  refine go_n 7 (f := (240, [some (.ref 60)], [], (wi (wl σ 60 18 s0) 60 16 ((gi σ 60 16) + 1)))) rfl ?_
  refine go_n 1 (f := (149, [some (.ref 60)], [], (wi (wl σ 60 18 s0) 60 16 ((gi σ 60 16) + 1)))) rfl ?_
  exact hrec149 _ _ hf
def fX7_next_L149   (rec149 : Sg → Option Sg) (σ : Sg) : Option Sg :=
  if (gi σ 60 17) ≠ 1 then lp (fX7_next_L243  ) N0 σ else if (gi σ 60 14) ≤ (gi σ 60 16) then lp (fX7_next_L243  ) N0 σ else if inb (gi σ 60 16) 400 then (fX7_isSmall (gi σ 66 (gi σ 60 16).toNatClampNeg)).bind fun q24 => if q24 = 0 then lp (fX7_next_L243  ) N0 σ else if 10 ≤ ((gi σ 60 16) - (gi σ 60 15)) then fX7_next_J227 (-1) rec149 σ else if inb (gi σ 60 16) 400 then fX7_next_J227 ((((gl σ 60 18) * 32) + (gi σ 66 (gi σ 60 16).toNatClampNeg).toInt64) - 96) rec149 σ else none else none
set_option maxHeartbeats 1500000 in
theorem fX7_next_L149_ok    : ∀ (n : Nat) (σ : Sg) (r : Sg), lp (fX7_next_L149  ) n σ = some r → Go true 1 iX7_next (149, [some (.ref 60)], [], σ) (.inl none, r) := by
  intro n
  induction n with
  | zero => intro σ r hf; cases hf
  | succ n ih =>
    intro σ r hf
    have hf : fX7_next_L149   (lp (fX7_next_L149  ) n) σ = some r := hf
    have hrec149 := ih
    generalize lp (fX7_next_L149  ) n = rec149 at hf hrec149
    unfold fX7_next_L149 at hf
    refine go_n 3 (f := (154, [some (.ref 60)], [.int 1, .int (gi σ 60 17)], σ)) rfl ?_
    by_cases h13 : (gi σ 60 17) ≠ 1
    · rw [if_pos h13] at hf
      refine go_it (t := 243) (f := 157) (L1 := [some (.ref 60)]) (st1 := []) (σ1 := σ) rfl h13 ?_
      exact fX7_next_L243_ok    N0 _ _ hf
    · rw [if_neg h13] at hf
      refine go_if (t := 243) (f := 157) (L1 := [some (.ref 60)]) (st1 := []) (σ1 := σ) rfl h13 ?_
      refine go_n 4 (f := (165, [some (.ref 60)], [.int (gi σ 60 14), .int (gi σ 60 16)], σ)) rfl ?_
      by_cases h22 : (gi σ 60 14) ≤ (gi σ 60 16)
      · rw [if_pos h22] at hf
        refine go_it (t := 243) (f := 168) (L1 := [some (.ref 60)]) (st1 := []) (σ1 := σ) rfl h22 ?_
        exact fX7_next_L243_ok    N0 _ _ hf
      · rw [if_neg h22] at hf
        refine go_if (t := 243) (f := 168) (L1 := [some (.ref 60)]) (st1 := []) (σ1 := σ) rfl h22 ?_
        refine go_n 4 (f := (176, [some (.ref 60)], [.int (gi σ 60 16), .ref 66], σ)) rfl ?_
        obtain ⟨h23, hf⟩ := grd hf
        refine go_iald rfl rfl rfl h23 ?_
        obtain ⟨q24, h25, hf⟩ := bnd hf
        refine go_c (mid := 12081) (args := [.int (gi σ 66 (gi σ 60 16).toNatClampNeg)]) (pc := 180) (L := [some (.ref 60)]) (st := []) (σ := σ) rfl ((fX7_isSmall_ok _ _ q24 h25).deep (Nat.le_of_ble_eq_true rfl)) ?_
        by_cases h26 : q24 = 0
        · rw [if_pos h26] at hf
          refine go_it (t := 243) (f := 183) (L1 := [some (.ref 60)]) (st1 := []) (σ1 := σ) rfl h26 ?_
          exact fX7_next_L243_ok    N0 _ _ hf
        · rw [if_neg h26] at hf
          refine go_if (t := 243) (f := 183) (L1 := [some (.ref 60)]) (st1 := []) (σ1 := σ) rfl h26 ?_
          refine go_n 7 (f := (195, [some (.ref 60)], [.int 10, .int ((gi σ 60 16) - (gi σ 60 15)), .ref 60], σ)) rfl ?_
          by_cases h27 : 10 ≤ ((gi σ 60 16) - (gi σ 60 15))
          · rw [if_pos h27] at hf
            refine go_it (t := 224) (f := 198) (L1 := [some (.ref 60)]) (st1 := [.ref 60]) (σ1 := σ) rfl h27 ?_
            refine go_n 1 (f := (227, [some (.ref 60)], [.long (-1), .ref 60], σ)) rfl ?_
            exact fX7_next_J227_ok _ _ _ hrec149 _ hf
          · rw [if_neg h27] at hf
            refine go_if (t := 224) (f := 198) (L1 := [some (.ref 60)]) (st1 := [.ref 60]) (σ1 := σ) rfl h27 ?_
            refine go_n 8 (f := (214, [some (.ref 60)], [.int (gi σ 60 16), .ref 66, .long ((gl σ 60 18) * 32), .ref 60], σ)) rfl ?_
            obtain ⟨h28, hf⟩ := grd hf
            refine go_iald rfl rfl rfl h28 ?_
            refine go_n 5 (f := (227, [some (.ref 60)], [.long ((((gl σ 60 18) * 32) + (gi σ 66 (gi σ 60 16).toNatClampNeg).toInt64) - 96), .ref 60], σ)) rfl ?_
            exact fX7_next_J227_ok _ _ _ hrec149 _ hf
def fX7_next_J114 (s0 : Int32)  (σ : Sg) : Option Sg :=
  if s0 ≠ 3 then lp (fX7_next_L149  ) N0 (wi σ 60 17 s0) else if inb (gi σ 60 15) 400 then lp (fX7_next_L149  ) N0 (wi (wl (wi σ 60 17 s0) 60 18 (gi σ 66 (gi σ 60 15).toNatClampNeg).toInt64) 60 16 ((gi σ 60 16) + 1)) else none
set_option maxHeartbeats 1500000 in
theorem fX7_next_J114_ok (s0 : Int32)  (σ : Sg)  (r : Sg) (hf : fX7_next_J114 s0  σ = some r) : Go true 1 iX7_next (114, [some (.ref 60)], [.int s0, .ref 60], σ) (.inl none, r) := by
  unfold fX7_next_J114 at hf
  refine go_n 4 (f := (122, [some (.ref 60)], [.int 3, .int s0], (wi σ 60 17 s0))) rfl ?_
  by_cases h31 : s0 ≠ 3
  · rw [if_pos h31] at hf
    refine go_it (t := 149) (f := 125) (L1 := [some (.ref 60)]) (st1 := []) (σ1 := (wi σ 60 17 s0)) rfl h31 ?_
    exact fX7_next_L149_ok    N0 _ _ hf
  · rw [if_neg h31] at hf
    refine go_if (t := 149) (f := 125) (L1 := [some (.ref 60)]) (st1 := []) (σ1 := (wi σ 60 17 s0)) rfl h31 ?_
    refine go_n 5 (f := (134, [some (.ref 60)], [.int (gi σ 60 15), .ref 66, .ref 60], (wi σ 60 17 s0))) rfl ?_
    obtain ⟨h32, hf⟩ := grd hf
    refine go_iald rfl rfl rfl h32 ?_
    refine go_n 8 (f := (149, [some (.ref 60)], [], (wi (wl (wi σ 60 17 s0) 60 18 (gi σ 66 (gi σ 60 15).toNatClampNeg).toInt64) 60 16 ((gi σ 60 16) + 1)))) rfl ?_
    exact fX7_next_L149_ok    N0 _ _ hf
def fX7_next_J46   (σ : Sg) : Option Sg :=
  if (gi σ 60 15) ≠ (gi σ 60 14) then if inb (gi σ 60 15) 400 then (fX7_isSmall (gi σ 66 (gi σ 60 15).toNatClampNeg)).bind fun q4 => if q4 = 0 then if inb (gi σ 60 15) 400 then (fX7_isDigit (gi σ 66 (gi σ 60 15).toNatClampNeg)).bind fun q8 => ((fun (z11 : Int32) => if z11 ≠ 3 then lp (fX7_next_L149  ) N0 (wi (wl (wi σ 60 16 (gi σ 60 15)) 60 18 0) 60 17 z11) else if inb (gi σ 60 15) 400 then lp (fX7_next_L149  ) N0 (wi (wl (wi (wl (wi σ 60 16 (gi σ 60 15)) 60 18 0) 60 17 z11) 60 18 (gi σ 66 (gi σ 60 15).toNatClampNeg).toInt64) 60 16 ((gi σ 60 15) + 1)) else none) ((if q8 = 0 then 3 else 2) : Int32)) else none else fX7_next_J114 1  (wl (wi σ 60 16 (gi σ 60 15)) 60 18 0) else none else fX7_next_J114 0  (wl (wi σ 60 16 (gi σ 60 15)) 60 18 0)
set_option maxHeartbeats 1500000 in
theorem fX7_next_J46_ok   (σ : Sg)  (r : Sg) (hf : fX7_next_J46   σ = some r) : Go true 1 iX7_next (46, [some (.ref 60)], [], σ) (.inl none, r) := by
  unfold fX7_next_J46 at hf
  refine go_n 7 (f := (59, [some (.ref 60)], [], (wl (wi σ 60 16 (gi σ 60 15)) 60 18 0))) rfl ?_
  refine go_n 5 (f := (68, [some (.ref 60)], [.int (gi σ 60 14), .int (gi σ 60 15), .ref 60], (wl (wi σ 60 16 (gi σ 60 15)) 60 18 0))) rfl ?_
  by_cases h2 : (gi σ 60 15) ≠ (gi σ 60 14)
  · rw [if_pos h2] at hf
    refine go_it (t := 75) (f := 71) (L1 := [some (.ref 60)]) (st1 := [.ref 60]) (σ1 := (wl (wi σ 60 16 (gi σ 60 15)) 60 18 0)) rfl h2 ?_
    refine go_n 4 (f := (83, [some (.ref 60)], [.int (gi σ 60 15), .ref 66, .ref 60], (wl (wi σ 60 16 (gi σ 60 15)) 60 18 0))) rfl ?_
    obtain ⟨h3, hf⟩ := grd hf
    refine go_iald rfl rfl rfl h3 ?_
    obtain ⟨q4, h5, hf⟩ := bnd hf
    refine go_c (mid := 12081) (args := [.int (gi σ 66 (gi σ 60 15).toNatClampNeg)]) (pc := 87) (L := [some (.ref 60)]) (st := [.ref 60]) (σ := (wl (wi σ 60 16 (gi σ 60 15)) 60 18 0)) rfl ((fX7_isSmall_ok _ _ q4 h5).deep (Nat.le_of_ble_eq_true rfl)) ?_
    by_cases h6 : q4 = 0
    · rw [if_pos h6] at hf
      refine go_it (t := 94) (f := 90) (L1 := [some (.ref 60)]) (st1 := [.ref 60]) (σ1 := (wl (wi σ 60 16 (gi σ 60 15)) 60 18 0)) rfl h6 ?_
      refine go_n 4 (f := (102, [some (.ref 60)], [.int (gi σ 60 15), .ref 66, .ref 60], (wl (wi σ 60 16 (gi σ 60 15)) 60 18 0))) rfl ?_
      obtain ⟨h7, hf⟩ := grd hf
      refine go_iald rfl rfl rfl h7 ?_
      obtain ⟨q8, h9, hf⟩ := bnd hf
      refine go_c (mid := 12082) (args := [.int (gi σ 66 (gi σ 60 15).toNatClampNeg)]) (pc := 106) (L := [some (.ref 60)]) (st := [.ref 60]) (σ := (wl (wi σ 60 16 (gi σ 60 15)) 60 18 0)) rfl ((fX7_isDigit_ok _ _ q8 h9).deep (Nat.le_of_ble_eq_true rfl)) ?_
      refine go_m (f := (114, [some (.ref 60)], [.int ((if q8 = 0 then 3 else 2) : Int32), .ref 60], (wl (wi σ 60 16 (gi σ 60 15)) 60 18 0))) ?_ (fun hJ30 => ?_)
      · generalize hz11 : ((if q8 = 0 then 3 else 2) : Int32) = z11 at hf ⊢
        try dsimp only at hf
        refine go_n 4 (f := (122, [some (.ref 60)], [.int 3, .int z11], (wi (wl (wi σ 60 16 (gi σ 60 15)) 60 18 0) 60 17 z11))) rfl ?_
        by_cases h12 : z11 ≠ 3
        · rw [if_pos h12] at hf
          refine go_it (t := 149) (f := 125) (L1 := [some (.ref 60)]) (st1 := []) (σ1 := (wi (wl (wi σ 60 16 (gi σ 60 15)) 60 18 0) 60 17 z11)) rfl h12 ?_
          exact fX7_next_L149_ok    N0 _ _ hf
        · rw [if_neg h12] at hf
          refine go_if (t := 149) (f := 125) (L1 := [some (.ref 60)]) (st1 := []) (σ1 := (wi (wl (wi σ 60 16 (gi σ 60 15)) 60 18 0) 60 17 z11)) rfl h12 ?_
          refine go_n 5 (f := (134, [some (.ref 60)], [.int (gi σ 60 15), .ref 66, .ref 60], (wi (wl (wi σ 60 16 (gi σ 60 15)) 60 18 0) 60 17 z11))) rfl ?_
          obtain ⟨h29, hf⟩ := grd hf
          refine go_iald rfl rfl rfl h29 ?_
          refine go_n 8 (f := (149, [some (.ref 60)], [], (wi (wl (wi (wl (wi σ 60 16 (gi σ 60 15)) 60 18 0) 60 17 z11) 60 18 (gi σ 66 (gi σ 60 15).toNatClampNeg).toInt64) 60 16 ((gi σ 60 15) + 1)))) rfl ?_
          exact fX7_next_L149_ok    N0 _ _ hf
      · by_cases h10 : q8 = 0
        · refine go_it (t := 113) (f := 109) (L1 := [some (.ref 60)]) (st1 := [.ref 60]) (σ1 := (wl (wi σ 60 16 (gi σ 60 15)) 60 18 0)) rfl h10 ?_
          refine go_n 1 (f := (114, [some (.ref 60)], [.int 3, .ref 60], (wl (wi σ 60 16 (gi σ 60 15)) 60 18 0))) rfl ?_
          simp only [if_pos h10] at hJ30
          first | exact hJ30 | (simp only [if_pos h10]; exact hJ30)
        · refine go_if (t := 113) (f := 109) (L1 := [some (.ref 60)]) (st1 := [.ref 60]) (σ1 := (wl (wi σ 60 16 (gi σ 60 15)) 60 18 0)) rfl h10 ?_
          refine go_n 2 (f := (114, [some (.ref 60)], [.int 2, .ref 60], (wl (wi σ 60 16 (gi σ 60 15)) 60 18 0))) rfl ?_
          simp only [if_neg h10] at hJ30
          first | exact hJ30 | (simp only [if_neg h10]; exact hJ30)
    · rw [if_neg h6] at hf
      refine go_if (t := 94) (f := 90) (L1 := [some (.ref 60)]) (st1 := [.ref 60]) (σ1 := (wl (wi σ 60 16 (gi σ 60 15)) 60 18 0)) rfl h6 ?_
      refine go_n 2 (f := (114, [some (.ref 60)], [.int 1, .ref 60], (wl (wi σ 60 16 (gi σ 60 15)) 60 18 0))) rfl ?_
      exact fX7_next_J114_ok _  _  _ hf
  · rw [if_neg h2] at hf
    refine go_if (t := 75) (f := 71) (L1 := [some (.ref 60)]) (st1 := [.ref 60]) (σ1 := (wl (wi σ 60 16 (gi σ 60 15)) 60 18 0)) rfl h2 ?_
    refine go_n 2 (f := (114, [some (.ref 60)], [.int 0, .ref 60], (wl (wi σ 60 16 (gi σ 60 15)) 60 18 0))) rfl ?_
    exact fX7_next_J114_ok _  _  _ hf
def fX7_next_L8   (rec8 : Sg → Option Sg) (σ : Sg) : Option Sg :=
  if (gi σ 60 14) ≤ (gi σ 60 15) then fX7_next_J46   σ else if inb (gi σ 60 15) 400 then if (gi σ 66 (gi σ 60 15).toNatClampNeg) ≠ 32 then fX7_next_J46   σ else rec8 (wi σ 60 15 ((gi σ 60 15) + 1)) else none
set_option maxHeartbeats 1500000 in
theorem fX7_next_L8_ok    : ∀ (n : Nat) (σ : Sg) (r : Sg), lp (fX7_next_L8  ) n σ = some r → Go true 1 iX7_next (8, [some (.ref 60)], [], σ) (.inl none, r) := by
  intro n
  induction n with
  | zero => intro σ r hf; cases hf
  | succ n ih =>
    intro σ r hf
    have hf : fX7_next_L8   (lp (fX7_next_L8  ) n) σ = some r := hf
    have hrec8 := ih
    generalize lp (fX7_next_L8  ) n = rec8 at hf hrec8
    unfold fX7_next_L8 at hf
    refine go_n 4 (f := (16, [some (.ref 60)], [.int (gi σ 60 14), .int (gi σ 60 15)], σ)) rfl ?_
    by_cases h1 : (gi σ 60 14) ≤ (gi σ 60 15)
    · rw [if_pos h1] at hf
      refine go_it (t := 46) (f := 19) (L1 := [some (.ref 60)]) (st1 := []) (σ1 := σ) rfl h1 ?_
      exact fX7_next_J46_ok   _  _ hf
    · rw [if_neg h1] at hf
      refine go_if (t := 46) (f := 19) (L1 := [some (.ref 60)]) (st1 := []) (σ1 := σ) rfl h1 ?_
      refine go_n 4 (f := (27, [some (.ref 60)], [.int (gi σ 60 15), .ref 66], σ)) rfl ?_
      obtain ⟨h33, hf⟩ := grd hf
      refine go_iald rfl rfl rfl h33 ?_
      refine go_n 1 (f := (30, [some (.ref 60)], [.int 32, .int (gi σ 66 (gi σ 60 15).toNatClampNeg)], σ)) rfl ?_
      by_cases h34 : (gi σ 66 (gi σ 60 15).toNatClampNeg) ≠ 32
      · rw [if_pos h34] at hf
        refine go_it (t := 46) (f := 33) (L1 := [some (.ref 60)]) (st1 := []) (σ1 := σ) rfl h34 ?_
        exact fX7_next_J46_ok   _  _ hf
      · rw [if_neg h34] at hf
        refine go_if (t := 46) (f := 33) (L1 := [some (.ref 60)]) (st1 := []) (σ1 := σ) rfl h34 ?_
        refine go_n 7 (f := (8, [some (.ref 60)], [], (wi σ 60 15 ((gi σ 60 15) + 1)))) rfl ?_
        exact hrec8 _ _ hf
def fX7_next  (σ : Sg) : Option Sg :=
  lp (fX7_next_L8  ) N0 (wi σ 60 15 (gi σ 60 16))
set_option maxHeartbeats 1500000 in
theorem fX7_next_ok  (σ : Sg) (r : Sg) (hf : fX7_next  σ = some r) : Cl true 1 12080 [.ref 60] σ (.inl none, r) := by
  refine ⟨iX7_next, rfl, Nat.le_of_ble_eq_true rfl, Nat.le_of_ble_eq_true rfl, ?_⟩
  show Go true 1 iX7_next (0, [some (.ref 60)], [], σ) (.inl none, r)
  unfold fX7_next at hf
  refine go_n 4 (f := (8, [some (.ref 60)], [], (wi σ 60 15 (gi σ 60 16)))) rfl ?_
  exact fX7_next_L8_ok    N0 _ _ hf
/-! OldWeatherModel.headAt()I -/
def fX7_headAt_J40   (σ : Sg) : Option Int32 :=
  (fX7_isWord 659105125 σ).bind fun q4 => if q4 = 0 then (fX7_isWord 20022661 σ).bind fun q7 => if q7 = 0 then (fX7_isWord 7394533 σ).bind fun q10 => ((fun (z13 : Int32) => some z13) ((if q10 = 0 then 3 else 2) : Int32)) else some 1 else some 0
set_option maxHeartbeats 1500000 in
theorem fX7_headAt_J40_ok   (σ : Sg)  (r : Int32) (hf : fX7_headAt_J40   σ = some r) : Go true 1 iX7_headAt (40, [some (.ref 60)], [], σ) (.inl (some (.int r)), σ) := by
  unfold fX7_headAt_J40 at hf
  refine go_n 2 (f := (44, [some (.ref 60)], [.long 659105125, .ref 60], σ)) rfl ?_
  obtain ⟨q4, h5, hf⟩ := bnd hf
  refine go_c (mid := 12085) (args := [.ref 60, .long 659105125]) (pc := 47) (L := [some (.ref 60)]) (st := []) (σ := σ) rfl ((fX7_isWord_ok _ _ q4 h5).deep (Nat.le_of_ble_eq_true rfl)) ?_
  by_cases h6 : q4 = 0
  · rw [if_pos h6] at hf
    refine go_it (t := 54) (f := 50) (L1 := [some (.ref 60)]) (st1 := []) (σ1 := σ) rfl h6 ?_
    refine go_n 2 (f := (58, [some (.ref 60)], [.long 20022661, .ref 60], σ)) rfl ?_
    obtain ⟨q7, h8, hf⟩ := bnd hf
    refine go_c (mid := 12085) (args := [.ref 60, .long 20022661]) (pc := 61) (L := [some (.ref 60)]) (st := []) (σ := σ) rfl ((fX7_isWord_ok _ _ q7 h8).deep (Nat.le_of_ble_eq_true rfl)) ?_
    by_cases h9 : q7 = 0
    · rw [if_pos h9] at hf
      refine go_it (t := 68) (f := 64) (L1 := [some (.ref 60)]) (st1 := []) (σ1 := σ) rfl h9 ?_
      refine go_n 2 (f := (72, [some (.ref 60)], [.long 7394533, .ref 60], σ)) rfl ?_
      obtain ⟨q10, h11, hf⟩ := bnd hf
      refine go_c (mid := 12085) (args := [.ref 60, .long 7394533]) (pc := 75) (L := [some (.ref 60)]) (st := []) (σ := σ) rfl ((fX7_isWord_ok _ _ q10 h11).deep (Nat.le_of_ble_eq_true rfl)) ?_
      refine go_m (f := (83, [none], [.int ((if q10 = 0 then 3 else 2) : Int32)], σ)) ?_ (fun hJ14 => ?_)
      · generalize hz13 : ((if q10 = 0 then 3 else 2) : Int32) = z13 at hf ⊢
        try dsimp only at hf
        cases hf
        exact go_r rfl
      · by_cases h12 : q10 = 0
        · refine go_it (t := 82) (f := 78) (L1 := [some (.ref 60)]) (st1 := []) (σ1 := σ) rfl h12 ?_
          refine go_n 1 (f := (83, [some (.ref 60)], [.int 3], σ)) rfl ?_
          refine go_e (L1 := [none]) rfl rfl ?_
          simp only [if_pos h12] at hJ14
          first | exact hJ14 | (simp only [if_pos h12]; exact hJ14)
        · refine go_if (t := 82) (f := 78) (L1 := [some (.ref 60)]) (st1 := []) (σ1 := σ) rfl h12 ?_
          refine go_n 2 (f := (83, [some (.ref 60)], [.int 2], σ)) rfl ?_
          refine go_e (L1 := [none]) rfl rfl ?_
          simp only [if_neg h12] at hJ14
          first | exact hJ14 | (simp only [if_neg h12]; exact hJ14)
    · rw [if_neg h9] at hf
      refine go_if (t := 68) (f := 64) (L1 := [some (.ref 60)]) (st1 := []) (σ1 := σ) rfl h9 ?_
      refine go_n 2 (f := (83, [some (.ref 60)], [.int 1], σ)) rfl ?_
      refine go_e (L1 := [none]) rfl rfl ?_
      cases hf
      exact go_r rfl
  · rw [if_neg h6] at hf
    refine go_if (t := 54) (f := 50) (L1 := [some (.ref 60)]) (st1 := []) (σ1 := σ) rfl h6 ?_
    refine go_n 2 (f := (83, [some (.ref 60)], [.int 0], σ)) rfl ?_
    refine go_e (L1 := [none]) rfl rfl ?_
    cases hf
    exact go_r rfl
def fX7_headAt_J114   (σ : Sg) : Option Int32 :=
  (fX7_isWord 4793556 σ).bind fun q27 => if q27 = 0 then (fX7_isWord 17383193 σ).bind fun q30 => ((fun (z33 : Int32) => some z33) ((if q30 = 0 then 6 else 5) : Int32)) else some 4
set_option maxHeartbeats 1500000 in
theorem fX7_headAt_J114_ok   (σ : Sg)  (r : Int32) (hf : fX7_headAt_J114   σ = some r) : Go true 1 iX7_headAt (114, [some (.ref 60)], [], σ) (.inl (some (.int r)), σ) := by
  unfold fX7_headAt_J114 at hf
  refine go_n 2 (f := (118, [some (.ref 60)], [.long 4793556, .ref 60], σ)) rfl ?_
  obtain ⟨q27, h28, hf⟩ := bnd hf
  refine go_c (mid := 12085) (args := [.ref 60, .long 4793556]) (pc := 121) (L := [some (.ref 60)]) (st := []) (σ := σ) rfl ((fX7_isWord_ok _ _ q27 h28).deep (Nat.le_of_ble_eq_true rfl)) ?_
  by_cases h29 : q27 = 0
  · rw [if_pos h29] at hf
    refine go_it (t := 128) (f := 124) (L1 := [some (.ref 60)]) (st1 := []) (σ1 := σ) rfl h29 ?_
    refine go_n 2 (f := (132, [some (.ref 60)], [.long 17383193, .ref 60], σ)) rfl ?_
    obtain ⟨q30, h31, hf⟩ := bnd hf
    refine go_c (mid := 12085) (args := [.ref 60, .long 17383193]) (pc := 135) (L := [some (.ref 60)]) (st := []) (σ := σ) rfl ((fX7_isWord_ok _ _ q30 h31).deep (Nat.le_of_ble_eq_true rfl)) ?_
    refine go_m (f := (144, [none], [.int ((if q30 = 0 then 6 else 5) : Int32)], σ)) ?_ (fun hJ34 => ?_)
    · generalize hz33 : ((if q30 = 0 then 6 else 5) : Int32) = z33 at hf ⊢
      try dsimp only at hf
      cases hf
      exact go_r rfl
    · by_cases h32 : q30 = 0
      · refine go_it (t := 142) (f := 138) (L1 := [some (.ref 60)]) (st1 := []) (σ1 := σ) rfl h32 ?_
        refine go_n 1 (f := (144, [some (.ref 60)], [.int 6], σ)) rfl ?_
        refine go_e (L1 := [none]) rfl rfl ?_
        simp only [if_pos h32] at hJ34
        first | exact hJ34 | (simp only [if_pos h32]; exact hJ34)
      · refine go_if (t := 142) (f := 138) (L1 := [some (.ref 60)]) (st1 := []) (σ1 := σ) rfl h32 ?_
        refine go_n 2 (f := (144, [some (.ref 60)], [.int 5], σ)) rfl ?_
        refine go_e (L1 := [none]) rfl rfl ?_
        simp only [if_neg h32] at hJ34
        first | exact hJ34 | (simp only [if_neg h32]; exact hJ34)
  · rw [if_neg h29] at hf
    refine go_if (t := 128) (f := 124) (L1 := [some (.ref 60)]) (st1 := []) (σ1 := σ) rfl h29 ?_
    refine go_n 2 (f := (144, [some (.ref 60)], [.int 4], σ)) rfl ?_
    refine go_e (L1 := [none]) rfl rfl ?_
    cases hf
    exact go_r rfl
def fX7_headAt  (σ : Sg) : Option Int32 :=
  (fX7_isWord 659105125 σ).bind fun q1 => if q1 ≠ 0 then fX7_headAt_J40   σ else (fX7_isWord 20022661 σ).bind fun q15 => if q15 ≠ 0 then fX7_headAt_J40   σ else (fX7_isWord 7394533 σ).bind fun q18 => if q18 ≠ 0 then fX7_headAt_J40   σ else (fX7_isWord 284103 σ).bind fun q21 => if q21 = 0 then (fX7_isWord 4793556 σ).bind fun q24 => if q24 ≠ 0 then fX7_headAt_J114   σ else (fX7_isWord 17383193 σ).bind fun q35 => if q35 ≠ 0 then fX7_headAt_J114   σ else (fX7_isWord 777297172 σ).bind fun q38 => if q38 = 0 then (fX7_isWord 624037 σ).bind fun q41 => if q41 = 0 then (fX7_isWord 114052 σ).bind fun q44 => ((fun (z47 : Int32) => some z47) ((if q44 = 0 then (-1) else 8) : Int32)) else some 7 else fX7_headAt_J114   σ else fX7_headAt_J40   σ
set_option maxHeartbeats 1500000 in
theorem fX7_headAt_ok  (σ : Sg) (r : Int32) (hf : fX7_headAt  σ = some r) : Cl true 1 12084 [.ref 60] σ (.inl (some (.int r)), σ) := by
  refine ⟨iX7_headAt, rfl, Nat.le_of_ble_eq_true rfl, Nat.le_of_ble_eq_true rfl, ?_⟩
  show Go true 1 iX7_headAt (0, [some (.ref 60)], [], σ) (.inl (some (.int r)), σ)
  unfold fX7_headAt at hf
  refine go_n 2 (f := (4, [some (.ref 60)], [.long 659105125, .ref 60], σ)) rfl ?_
  obtain ⟨q1, h2, hf⟩ := bnd hf
  refine go_c (mid := 12085) (args := [.ref 60, .long 659105125]) (pc := 7) (L := [some (.ref 60)]) (st := []) (σ := σ) rfl ((fX7_isWord_ok _ _ q1 h2).deep (Nat.le_of_ble_eq_true rfl)) ?_
  by_cases h3 : q1 ≠ 0
  · rw [if_pos h3] at hf
    refine go_it (t := 40) (f := 10) (L1 := [some (.ref 60)]) (st1 := []) (σ1 := σ) rfl h3 ?_
    exact fX7_headAt_J40_ok   _  _ hf
  · rw [if_neg h3] at hf
    refine go_if (t := 40) (f := 10) (L1 := [some (.ref 60)]) (st1 := []) (σ1 := σ) rfl h3 ?_
    refine go_n 2 (f := (14, [some (.ref 60)], [.long 20022661, .ref 60], σ)) rfl ?_
    obtain ⟨q15, h16, hf⟩ := bnd hf
    refine go_c (mid := 12085) (args := [.ref 60, .long 20022661]) (pc := 17) (L := [some (.ref 60)]) (st := []) (σ := σ) rfl ((fX7_isWord_ok _ _ q15 h16).deep (Nat.le_of_ble_eq_true rfl)) ?_
    by_cases h17 : q15 ≠ 0
    · rw [if_pos h17] at hf
      refine go_it (t := 40) (f := 20) (L1 := [some (.ref 60)]) (st1 := []) (σ1 := σ) rfl h17 ?_
      exact fX7_headAt_J40_ok   _  _ hf
    · rw [if_neg h17] at hf
      refine go_if (t := 40) (f := 20) (L1 := [some (.ref 60)]) (st1 := []) (σ1 := σ) rfl h17 ?_
      refine go_n 2 (f := (24, [some (.ref 60)], [.long 7394533, .ref 60], σ)) rfl ?_
      obtain ⟨q18, h19, hf⟩ := bnd hf
      refine go_c (mid := 12085) (args := [.ref 60, .long 7394533]) (pc := 27) (L := [some (.ref 60)]) (st := []) (σ := σ) rfl ((fX7_isWord_ok _ _ q18 h19).deep (Nat.le_of_ble_eq_true rfl)) ?_
      by_cases h20 : q18 ≠ 0
      · rw [if_pos h20] at hf
        refine go_it (t := 40) (f := 30) (L1 := [some (.ref 60)]) (st1 := []) (σ1 := σ) rfl h20 ?_
        exact fX7_headAt_J40_ok   _  _ hf
      · rw [if_neg h20] at hf
        refine go_if (t := 40) (f := 30) (L1 := [some (.ref 60)]) (st1 := []) (σ1 := σ) rfl h20 ?_
        refine go_n 2 (f := (34, [some (.ref 60)], [.long 284103, .ref 60], σ)) rfl ?_
        obtain ⟨q21, h22, hf⟩ := bnd hf
        refine go_c (mid := 12085) (args := [.ref 60, .long 284103]) (pc := 37) (L := [some (.ref 60)]) (st := []) (σ := σ) rfl ((fX7_isWord_ok _ _ q21 h22).deep (Nat.le_of_ble_eq_true rfl)) ?_
        by_cases h23 : q21 = 0
        · rw [if_pos h23] at hf
          refine go_it (t := 84) (f := 40) (L1 := [some (.ref 60)]) (st1 := []) (σ1 := σ) rfl h23 ?_
          refine go_n 2 (f := (88, [some (.ref 60)], [.long 4793556, .ref 60], σ)) rfl ?_
          obtain ⟨q24, h25, hf⟩ := bnd hf
          refine go_c (mid := 12085) (args := [.ref 60, .long 4793556]) (pc := 91) (L := [some (.ref 60)]) (st := []) (σ := σ) rfl ((fX7_isWord_ok _ _ q24 h25).deep (Nat.le_of_ble_eq_true rfl)) ?_
          by_cases h26 : q24 ≠ 0
          · rw [if_pos h26] at hf
            refine go_it (t := 114) (f := 94) (L1 := [some (.ref 60)]) (st1 := []) (σ1 := σ) rfl h26 ?_
            exact fX7_headAt_J114_ok   _  _ hf
          · rw [if_neg h26] at hf
            refine go_if (t := 114) (f := 94) (L1 := [some (.ref 60)]) (st1 := []) (σ1 := σ) rfl h26 ?_
            refine go_n 2 (f := (98, [some (.ref 60)], [.long 17383193, .ref 60], σ)) rfl ?_
            obtain ⟨q35, h36, hf⟩ := bnd hf
            refine go_c (mid := 12085) (args := [.ref 60, .long 17383193]) (pc := 101) (L := [some (.ref 60)]) (st := []) (σ := σ) rfl ((fX7_isWord_ok _ _ q35 h36).deep (Nat.le_of_ble_eq_true rfl)) ?_
            by_cases h37 : q35 ≠ 0
            · rw [if_pos h37] at hf
              refine go_it (t := 114) (f := 104) (L1 := [some (.ref 60)]) (st1 := []) (σ1 := σ) rfl h37 ?_
              exact fX7_headAt_J114_ok   _  _ hf
            · rw [if_neg h37] at hf
              refine go_if (t := 114) (f := 104) (L1 := [some (.ref 60)]) (st1 := []) (σ1 := σ) rfl h37 ?_
              refine go_n 2 (f := (108, [some (.ref 60)], [.long 777297172, .ref 60], σ)) rfl ?_
              obtain ⟨q38, h39, hf⟩ := bnd hf
              refine go_c (mid := 12085) (args := [.ref 60, .long 777297172]) (pc := 111) (L := [some (.ref 60)]) (st := []) (σ := σ) rfl ((fX7_isWord_ok _ _ q38 h39).deep (Nat.le_of_ble_eq_true rfl)) ?_
              by_cases h40 : q38 = 0
              · rw [if_pos h40] at hf
                refine go_it (t := 145) (f := 114) (L1 := [some (.ref 60)]) (st1 := []) (σ1 := σ) rfl h40 ?_
                refine go_n 2 (f := (149, [some (.ref 60)], [.long 624037, .ref 60], σ)) rfl ?_
                obtain ⟨q41, h42, hf⟩ := bnd hf
                refine go_c (mid := 12085) (args := [.ref 60, .long 624037]) (pc := 152) (L := [some (.ref 60)]) (st := []) (σ := σ) rfl ((fX7_isWord_ok _ _ q41 h42).deep (Nat.le_of_ble_eq_true rfl)) ?_
                by_cases h43 : q41 = 0
                · rw [if_pos h43] at hf
                  refine go_it (t := 160) (f := 155) (L1 := [some (.ref 60)]) (st1 := []) (σ1 := σ) rfl h43 ?_
                  refine go_n 2 (f := (164, [some (.ref 60)], [.long 114052, .ref 60], σ)) rfl ?_
                  obtain ⟨q44, h45, hf⟩ := bnd hf
                  refine go_c (mid := 12085) (args := [.ref 60, .long 114052]) (pc := 167) (L := [some (.ref 60)]) (st := []) (σ := σ) rfl ((fX7_isWord_ok _ _ q44 h45).deep (Nat.le_of_ble_eq_true rfl)) ?_
                  refine go_m (f := (176, [none], [.int ((if q44 = 0 then (-1) else 8) : Int32)], σ)) ?_ (fun hJ48 => ?_)
                  · generalize hz47 : ((if q44 = 0 then (-1) else 8) : Int32) = z47 at hf ⊢
                    try dsimp only at hf
                    cases hf
                    exact go_r rfl
                  · by_cases h46 : q44 = 0
                    · refine go_it (t := 175) (f := 170) (L1 := [some (.ref 60)]) (st1 := []) (σ1 := σ) rfl h46 ?_
                      refine go_n 1 (f := (176, [some (.ref 60)], [.int (-1)], σ)) rfl ?_
                      refine go_e (L1 := [none]) rfl rfl ?_
                      simp only [if_pos h46] at hJ48
                      first | exact hJ48 | (simp only [if_pos h46]; exact hJ48)
                    · refine go_if (t := 175) (f := 170) (L1 := [some (.ref 60)]) (st1 := []) (σ1 := σ) rfl h46 ?_
                      refine go_n 2 (f := (176, [some (.ref 60)], [.int 8], σ)) rfl ?_
                      refine go_e (L1 := [none]) rfl rfl ?_
                      simp only [if_neg h46] at hJ48
                      first | exact hJ48 | (simp only [if_neg h46]; exact hJ48)
                · rw [if_neg h43] at hf
                  refine go_if (t := 160) (f := 155) (L1 := [some (.ref 60)]) (st1 := []) (σ1 := σ) rfl h43 ?_
                  refine go_n 2 (f := (176, [some (.ref 60)], [.int 7], σ)) rfl ?_
                  refine go_e (L1 := [none]) rfl rfl ?_
                  cases hf
                  exact go_r rfl
              · rw [if_neg h40] at hf
                refine go_if (t := 145) (f := 114) (L1 := [some (.ref 60)]) (st1 := []) (σ1 := σ) rfl h40 ?_
                exact fX7_headAt_J114_ok   _  _ hf
        · rw [if_neg h23] at hf
          refine go_if (t := 84) (f := 40) (L1 := [some (.ref 60)]) (st1 := []) (σ1 := σ) rfl h23 ?_
          exact fX7_headAt_J40_ok   _  _ hf
/-! OldWeatherModel.must(Z)V -/
def fX7_must_J24   (σ : Sg) : Option Sg :=
  if (gi σ 60 20) ≠ 0 then some σ else (fX7_next  σ).bind fun q3 => some q3
set_option maxHeartbeats 1500000 in
theorem fX7_must_J24_ok   (σ : Sg)  (r : Sg) (hf : fX7_must_J24   σ = some r) : Go true 2 iX7_must (24, [some (.ref 60), none], [], σ) (.inl none, r) := by
  unfold fX7_must_J24 at hf
  refine go_n 2 (f := (28, [some (.ref 60), none], [.int (gi σ 60 20)], σ)) rfl ?_
  by_cases h2 : (gi σ 60 20) ≠ 0
  · rw [if_pos h2] at hf
    refine go_it (t := 35) (f := 31) (L1 := [some (.ref 60), none]) (st1 := []) (σ1 := σ) rfl h2 ?_
    refine go_e (L1 := [none, none]) rfl rfl ?_
    cases hf
    exact go_r rfl
  · rw [if_neg h2] at hf
    refine go_if (t := 35) (f := 31) (L1 := [some (.ref 60), none]) (st1 := []) (σ1 := σ) rfl h2 ?_
    refine go_n 1 (f := (32, [some (.ref 60), none], [.ref 60], σ)) rfl ?_
    obtain ⟨q3, h4, hf⟩ := bnd hf
    refine go_c (mid := 12080) (args := [.ref 60]) (pc := 35) (L := [some (.ref 60), none]) (st := []) (σ := σ) rfl ((fX7_next_ok _ q3 h4).deep (Nat.le_of_ble_eq_true rfl)) ?_
    refine go_e (L1 := [none, none]) rfl rfl ?_
    cases hf
    exact go_r rfl
def fX7_must (x1 : Int32) (σ : Sg) : Option Sg :=
  if (gi σ 60 20) ≠ 0 then fX7_must_J24   σ else if x1 ≠ 0 then fX7_must_J24   σ else fX7_must_J24   (wi (wi σ 60 20 1) 60 19 (gi σ 60 15))
set_option maxHeartbeats 1500000 in
theorem fX7_must_ok (x1 : Int32) (σ : Sg) (r : Sg) (hf : fX7_must x1 σ = some r) : Cl true 2 12086 [.ref 60, .int x1] σ (.inl none, r) := by
  refine ⟨iX7_must, rfl, Nat.le_of_ble_eq_true rfl, Nat.le_of_ble_eq_true rfl, ?_⟩
  show Go true 2 iX7_must (0, [some (.ref 60), some (.int x1)], [], σ) (.inl none, r)
  unfold fX7_must at hf
  refine go_n 2 (f := (4, [some (.ref 60), some (.int x1)], [.int (gi σ 60 20)], σ)) rfl ?_
  by_cases h1 : (gi σ 60 20) ≠ 0
  · rw [if_pos h1] at hf
    refine go_it (t := 24) (f := 7) (L1 := [some (.ref 60), some (.int x1)]) (st1 := []) (σ1 := σ) rfl h1 ?_
    refine go_e (L1 := [some (.ref 60), none]) rfl rfl ?_
    exact fX7_must_J24_ok   _  _ hf
  · rw [if_neg h1] at hf
    refine go_if (t := 24) (f := 7) (L1 := [some (.ref 60), some (.int x1)]) (st1 := []) (σ1 := σ) rfl h1 ?_
    refine go_n 1 (f := (8, [some (.ref 60), some (.int x1)], [.int x1], σ)) rfl ?_
    by_cases h5 : x1 ≠ 0
    · rw [if_pos h5] at hf
      refine go_it (t := 24) (f := 11) (L1 := [some (.ref 60), some (.int x1)]) (st1 := []) (σ1 := σ) rfl h5 ?_
      refine go_e (L1 := [some (.ref 60), none]) rfl rfl ?_
      exact fX7_must_J24_ok   _  _ hf
    · rw [if_neg h5] at hf
      refine go_if (t := 24) (f := 11) (L1 := [some (.ref 60), some (.int x1)]) (st1 := []) (σ1 := σ) rfl h5 ?_
      refine go_n 7 (f := (24, [some (.ref 60), some (.int x1)], [], (wi (wi σ 60 20 1) 60 19 (gi σ 60 15)))) rfl ?_
      refine go_e (L1 := [some (.ref 60), none]) rfl rfl ?_
      exact fX7_must_J24_ok   _  _ hf
/-! OldWeatherModel.number(JJ)I -/
def fX7_number_J33 (x5 : Int32) (s0 : Int32)  (σ : Sg) : Option (Int32 × Sg) :=
  (fX7_must s0 σ).bind fun q2 => some (x5, q2)
set_option maxHeartbeats 1500000 in
theorem fX7_number_J33_ok (x5 : Int32) (s0 : Int32)  (σ : Sg)  (r : (Int32 × Sg)) (hf : fX7_number_J33 x5 s0  σ = some r) : Go true 3 iX7_number (33, [none, none, none, none, none, some (.int x5)], [.int s0, .ref 60], σ) (.inl (some (.int (r).1)), (r).2) := by
  unfold fX7_number_J33 at hf
  obtain ⟨q2, h3, hf⟩ := bnd hf
  refine go_c (mid := 12086) (args := [.ref 60, .int s0]) (pc := 36) (L := [none, none, none, none, none, some (.int x5)]) (st := []) (σ := σ) rfl ((fX7_must_ok _ _ q2 h3).deep (Nat.le_of_ble_eq_true rfl)) ?_
  refine go_n 1 (f := (38, [none, none, none, none, none, some (.int x5)], [.int x5], q2)) rfl ?_
  cases hf
  exact go_r rfl
def fX7_number_J32 (x5 : Int32)  (σ : Sg) : Option (Int32 × Sg) :=
  fX7_number_J33 x5 0  σ
set_option maxHeartbeats 1500000 in
theorem fX7_number_J32_ok (x5 : Int32)  (σ : Sg)  (r : (Int32 × Sg)) (hf : fX7_number_J32 x5  σ = some r) : Go true 3 iX7_number (32, [none, none, none, none, none, some (.int x5)], [.ref 60], σ) (.inl (some (.int (r).1)), (r).2) := by
  unfold fX7_number_J32 at hf
  refine go_n 1 (f := (33, [none, none, none, none, none, some (.int x5)], [.int 0, .ref 60], σ)) rfl ?_
  exact fX7_number_J33_ok _ _  _  _ hf
def fX7_number (x1 : Int64) (x3 : Int64) (σ : Sg) : Option (Int32 × Sg) :=
  if (gi σ 60 17) ≠ 2 then fX7_number_J32 (gl σ 60 18).toInt32  σ else (fX7_in (gl σ 60 18) x1 x3).bind fun q4 => ((fun (z7 : Int32) => (fX7_must z7 σ).bind fun q8 => some ((gl σ 60 18).toInt32, q8)) ((if q4 = 0 then 0 else 1) : Int32))
set_option maxHeartbeats 1500000 in
theorem fX7_number_ok (x1 : Int64) (x3 : Int64) (σ : Sg) (r : (Int32 × Sg)) (hf : fX7_number x1 x3 σ = some r) : Cl true 3 12087 [.ref 60, .long x1, .long x3] σ (.inl (some (.int (r).1)), (r).2) := by
  refine ⟨iX7_number, rfl, Nat.le_of_ble_eq_true rfl, Nat.le_of_ble_eq_true rfl, ?_⟩
  show Go true 3 iX7_number (0, [some (.ref 60), some (.long x1), none, some (.long x3), none, none], [], σ) (.inl (some (.int (r).1)), (r).2)
  unfold fX7_number at hf
  refine go_n 8 (f := (13, [some (.ref 60), some (.long x1), none, some (.long x3), none, some (.int (gl σ 60 18).toInt32)], [.int 2, .int (gi σ 60 17), .ref 60], σ)) rfl ?_
  by_cases h1 : (gi σ 60 17) ≠ 2
  · rw [if_pos h1] at hf
    refine go_it (t := 32) (f := 16) (L1 := [some (.ref 60), some (.long x1), none, some (.long x3), none, some (.int (gl σ 60 18).toInt32)]) (st1 := [.ref 60]) (σ1 := σ) rfl h1 ?_
    refine go_e (L1 := [none, none, none, none, none, some (.int (gl σ 60 18).toInt32)]) rfl rfl ?_
    exact fX7_number_J32_ok _  _  _ hf
  · rw [if_neg h1] at hf
    refine go_if (t := 32) (f := 16) (L1 := [some (.ref 60), some (.long x1), none, some (.long x3), none, some (.int (gl σ 60 18).toInt32)]) (st1 := [.ref 60]) (σ1 := σ) rfl h1 ?_
    refine go_n 4 (f := (22, [some (.ref 60), some (.long x1), none, some (.long x3), none, some (.int (gl σ 60 18).toInt32)], [.long x3, .long x1, .long (gl σ 60 18), .ref 60], σ)) rfl ?_
    obtain ⟨q4, h5, hf⟩ := bnd hf
    refine go_c (mid := 12034) (args := [.long (gl σ 60 18), .long x1, .long x3]) (pc := 25) (L := [some (.ref 60), some (.long x1), none, some (.long x3), none, some (.int (gl σ 60 18).toInt32)]) (st := [.ref 60]) (σ := σ) rfl ((fX7_in_ok _ _ _ _ q4 h5).deep (Nat.le_of_ble_eq_true rfl)) ?_
    refine go_m (f := (33, [none, none, none, none, none, some (.int (gl σ 60 18).toInt32)], [.int ((if q4 = 0 then 0 else 1) : Int32), .ref 60], σ)) ?_ (fun hJ10 => ?_)
    · generalize hz7 : ((if q4 = 0 then 0 else 1) : Int32) = z7 at hf ⊢
      have oz7 : am_ok 3 z7 = true := hz7 ▸ (okb rfl rfl)
      try dsimp only at hf
      obtain ⟨q8, h9, hf⟩ := bnd hf
      refine go_c (mid := 12086) (args := [.ref 60, .int z7]) (pc := 36) (L := [none, none, none, none, none, some (.int (gl σ 60 18).toInt32)]) (st := []) (σ := σ) rfl ((fX7_must_ok _ _ q8 h9).deep (Nat.le_of_ble_eq_true rfl)) ?_
      refine go_n 1 (f := (38, [none, none, none, none, none, some (.int (gl σ 60 18).toInt32)], [.int (gl σ 60 18).toInt32], q8)) rfl ?_
      cases hf
      exact go_r rfl
    · by_cases h6 : q4 = 0
      · refine go_it (t := 32) (f := 28) (L1 := [some (.ref 60), some (.long x1), none, some (.long x3), none, some (.int (gl σ 60 18).toInt32)]) (st1 := [.ref 60]) (σ1 := σ) rfl h6 ?_
        refine go_e (L1 := [none, none, none, none, none, some (.int (gl σ 60 18).toInt32)]) rfl rfl ?_
        refine go_n 1 (f := (33, [none, none, none, none, none, some (.int (gl σ 60 18).toInt32)], [.int 0, .ref 60], σ)) rfl ?_
        refine go_e (L1 := [none, none, none, none, none, some (.int (gl σ 60 18).toInt32)]) rfl rfl ?_
        simp only [if_pos h6] at hJ10
        first | exact hJ10 | (simp only [if_pos h6]; exact hJ10)
      · refine go_if (t := 32) (f := 28) (L1 := [some (.ref 60), some (.long x1), none, some (.long x3), none, some (.int (gl σ 60 18).toInt32)]) (st1 := [.ref 60]) (σ1 := σ) rfl h6 ?_
        refine go_n 2 (f := (33, [some (.ref 60), some (.long x1), none, some (.long x3), none, some (.int (gl σ 60 18).toInt32)], [.int 1, .ref 60], σ)) rfl ?_
        refine go_e (L1 := [none, none, none, none, none, some (.int (gl σ 60 18).toInt32)]) rfl rfl ?_
        simp only [if_neg h6] at hJ10
        first | exact hJ10 | (simp only [if_neg h6]; exact hJ10)
/-! OldWeatherModel.choice(I)I -/
def fX7_choice (x1 : Int32) (σ : Sg) : Option (Int32 × Sg) :=
  ((fun (z2 : Int32) => (fX7_must z2 σ).bind fun q3 => some (x1, q3)) ((if x1 = (-1) then 0 else 1) : Int32))
set_option maxHeartbeats 1500000 in
theorem fX7_choice_ok (x1 : Int32) (σ : Sg) (r : (Int32 × Sg)) (hf : fX7_choice x1 σ = some r) : Cl true 3 12089 [.ref 60, .int x1] σ (.inl (some (.int (r).1)), (r).2) := by
  refine ⟨iX7_choice, rfl, Nat.le_of_ble_eq_true rfl, Nat.le_of_ble_eq_true rfl, ?_⟩
  show Go true 3 iX7_choice (0, [some (.ref 60), some (.int x1)], [], σ) (.inl (some (.int (r).1)), (r).2)
  unfold fX7_choice at hf
  refine go_n 3 (f := (3, [some (.ref 60), some (.int x1)], [.int (-1), .int x1, .ref 60], σ)) rfl ?_
  refine go_m (f := (11, [none, some (.int x1)], [.int ((if x1 = (-1) then 0 else 1) : Int32), .ref 60], σ)) ?_ (fun hJ5 => ?_)
  · generalize hz2 : ((if x1 = (-1) then 0 else 1) : Int32) = z2 at hf ⊢
    have oz2 : am_ok 3 z2 = true := hz2 ▸ (okb rfl rfl)
    try dsimp only at hf
    obtain ⟨q3, h4, hf⟩ := bnd hf
    refine go_c (mid := 12086) (args := [.ref 60, .int z2]) (pc := 14) (L := [none, some (.int x1)]) (st := []) (σ := σ) rfl ((fX7_must_ok _ _ q3 h4).deep (Nat.le_of_ble_eq_true rfl)) ?_
    refine go_n 1 (f := (15, [none, some (.int x1)], [.int x1], q3)) rfl ?_
    cases hf
    exact go_r rfl
  · by_cases h1 : x1 = (-1)
    · refine go_it (t := 10) (f := 6) (L1 := [some (.ref 60), some (.int x1)]) (st1 := [.ref 60]) (σ1 := σ) rfl h1 ?_
      refine go_n 1 (f := (11, [some (.ref 60), some (.int x1)], [.int 0, .ref 60], σ)) rfl ?_
      refine go_e (L1 := [none, some (.int x1)]) rfl rfl ?_
      simp only [if_pos h1] at hJ5
      first | exact hJ5 | (simp only [if_pos h1]; exact hJ5)
    · refine go_if (t := 10) (f := 6) (L1 := [some (.ref 60), some (.int x1)]) (st1 := [.ref 60]) (σ1 := σ) rfl h1 ?_
      refine go_n 2 (f := (11, [some (.ref 60), some (.int x1)], [.int 1, .ref 60], σ)) rfl ?_
      refine go_e (L1 := [none, some (.int x1)]) rfl rfl ?_
      simp only [if_neg h1] at hJ5
      first | exact hJ5 | (simp only [if_neg h1]; exact hJ5)
/-! OldWeatherModel.open(I)V -/
def fX7_open (x1 : Int32) (σ : Sg) : Option Sg :=
  ((fun (z2 : Int32) => (fX7_must z2 σ).bind fun q3 => if (gi q3 60 20) ≠ 0 then some q3 else (fX7_push x1 0 (wi q3 60 30 ((gi q3 60 30) + 1))).bind fun q6 => some q6) ((if 8 ≤ (gi σ 60 30) then 0 else 1) : Int32))
set_option maxHeartbeats 1500000 in
theorem fX7_open_ok (x1 : Int32) (σ : Sg) (r : Sg) (hf : fX7_open x1 σ = some r) : Cl true 3 12095 [.ref 60, .int x1] σ (.inl none, r) := by
  refine ⟨iX7_open, rfl, Nat.le_of_ble_eq_true rfl, Nat.le_of_ble_eq_true rfl, ?_⟩
  show Go true 3 iX7_open (0, [some (.ref 60), some (.int x1)], [], σ) (.inl none, r)
  unfold fX7_open at hf
  refine go_n 4 (f := (7, [some (.ref 60), some (.int x1)], [.int 8, .int (gi σ 60 30), .ref 60], σ)) rfl ?_
  refine go_m (f := (15, [some (.ref 60), some (.int x1)], [.int ((if 8 ≤ (gi σ 60 30) then 0 else 1) : Int32), .ref 60], σ)) ?_ (fun hJ8 => ?_)
  · generalize hz2 : ((if 8 ≤ (gi σ 60 30) then 0 else 1) : Int32) = z2 at hf ⊢
    have oz2 : am_ok 3 z2 = true := hz2 ▸ (okb rfl rfl)
    try dsimp only at hf
    obtain ⟨q3, h4, hf⟩ := bnd hf
    refine go_c (mid := 12086) (args := [.ref 60, .int z2]) (pc := 18) (L := [some (.ref 60), some (.int x1)]) (st := []) (σ := σ) rfl ((fX7_must_ok _ _ q3 h4).deep (Nat.le_of_ble_eq_true rfl)) ?_
    refine go_n 2 (f := (22, [some (.ref 60), some (.int x1)], [.int (gi q3 60 20)], q3)) rfl ?_
    by_cases h5 : (gi q3 60 20) ≠ 0
    · rw [if_pos h5] at hf
      refine go_it (t := 41) (f := 25) (L1 := [some (.ref 60), some (.int x1)]) (st1 := []) (σ1 := q3) rfl h5 ?_
      refine go_e (L1 := [none, none]) rfl rfl ?_
      cases hf
      exact go_r rfl
    · rw [if_neg h5] at hf
      refine go_if (t := 41) (f := 25) (L1 := [some (.ref 60), some (.int x1)]) (st1 := []) (σ1 := q3) rfl h5 ?_
      refine go_n 9 (f := (38, [some (.ref 60), some (.int x1)], [.int 0, .int x1, .ref 60], (wi q3 60 30 ((gi q3 60 30) + 1)))) rfl ?_
      obtain ⟨q6, h7, hf⟩ := bnd hf
      refine go_c (mid := 12093) (args := [.ref 60, .int x1, .int 0]) (pc := 41) (L := [some (.ref 60), some (.int x1)]) (st := []) (σ := (wi q3 60 30 ((gi q3 60 30) + 1))) rfl ((fX7_push_ok _ _ _ q6 h7).deep (Nat.le_of_ble_eq_true rfl)) ?_
      refine go_e (L1 := [none, none]) rfl rfl ?_
      cases hf
      exact go_r rfl
  · by_cases h1 : 8 ≤ (gi σ 60 30)
    · refine go_it (t := 14) (f := 10) (L1 := [some (.ref 60), some (.int x1)]) (st1 := [.ref 60]) (σ1 := σ) rfl h1 ?_
      refine go_n 1 (f := (15, [some (.ref 60), some (.int x1)], [.int 0, .ref 60], σ)) rfl ?_
      simp only [if_pos h1] at hJ8
      first | exact hJ8 | (simp only [if_pos h1]; exact hJ8)
    · refine go_if (t := 14) (f := 10) (L1 := [some (.ref 60), some (.int x1)]) (st1 := [.ref 60]) (σ1 := σ) rfl h1 ?_
      refine go_n 2 (f := (15, [some (.ref 60), some (.int x1)], [.int 1, .ref 60], σ)) rfl ?_
      simp only [if_neg h1] at hJ8
      first | exact hJ8 | (simp only [if_neg h1]; exact hJ8)
/-! OldWeatherModel.settle(I)V -/
def fX7_settle_J63 (x1 : Int32) (rec0 : Sg → Option Sg) (σ : Sg) : Option Sg :=
  if inb (gi σ 60 29) 400 then if inb (gi σ 71 (gi σ 60 29).toNatClampNeg) 400 then rec0 (wi σ 69 (gi σ 71 (gi σ 60 29).toNatClampNeg).toNatClampNeg (gi σ 60 23)) else none else none
set_option maxHeartbeats 1500000 in
theorem fX7_settle_J63_ok (x1 : Int32) (rec0 : Sg → Option Sg) (σ : Sg) (hrec0 : ∀ (τ : Sg) (r : Sg), rec0 τ = some r → Go true 1 iX7_settle (0, [some (.ref 60), some (.int x1)], [], τ) (.inl none, r)) (r : Sg) (hf : fX7_settle_J63 x1 rec0 σ = some r) : Go true 1 iX7_settle (63, [some (.ref 60), some (.int x1)], [], σ) (.inl none, r) := by
  unfold fX7_settle_J63 at hf
  refine go_n 6 (f := (75, [some (.ref 60), some (.int x1)], [.int (gi σ 60 29), .ref 71, .ref 69], σ)) rfl ?_
  obtain ⟨h8, hf⟩ := grd hf
  refine go_iald rfl rfl rfl h8 ?_
  refine go_n 2 (f := (80, [some (.ref 60), some (.int x1)], [.int (gi σ 60 23), .int (gi σ 71 (gi σ 60 29).toNatClampNeg), .ref 69], σ)) rfl ?_
  obtain ⟨h9, hf⟩ := grd hf
  refine go_iast rfl rfl rfl h9 ?_
  refine go_n 1 (f := (0, [some (.ref 60), some (.int x1)], [], (wi σ 69 (gi σ 71 (gi σ 60 29).toNatClampNeg).toNatClampNeg (gi σ 60 23)))) rfl ?_
  exact hrec0 _ _ hf
def fX7_settle_L0 (x1 : Int32)  (rec0 : Sg → Option Sg) (σ : Sg) : Option Sg :=
  if (gi σ 60 29) ≤ 0 then some σ else if inb ((gi σ 60 29) - 1) 400 then (fX7_binds (gi σ 70 ((gi σ 60 29) - 1).toNatClampNeg)).bind fun q3 => if q3 < x1 then some σ else if inb ((gi σ 60 29) - 1) 400 then if (gi σ 70 ((gi σ 60 29) - 1).toNatClampNeg) = 18 then fX7_settle_J63 x1 rec0 (wi σ 60 29 ((gi σ 60 29) - 1)) else if inb ((gi σ 60 29) - 1) 400 then if (gi σ 70 ((gi σ 60 29) - 1).toNatClampNeg) ≠ 19 then if inb ((gi σ 60 29) - 1) 400 then ((fun (z14 : Int32) => if inb ((gi σ 60 29) - 1) 400 then (fX7_emit (gi σ 70 ((gi σ 60 29) - 1).toNatClampNeg) 0 (wi (wi σ 60 29 ((gi σ 60 29) - 1)) 60 30 ((gi σ 60 30) - z14))).bind fun q16 => rec0 q16 else none) ((if (gi σ 70 ((gi σ 60 29) - 1).toNatClampNeg) ≠ 15 then 0 else 1) : Int32)) else none else fX7_settle_J63 x1 rec0 (wi σ 60 29 ((gi σ 60 29) - 1)) else none else none else none
set_option maxHeartbeats 1500000 in
theorem fX7_settle_L0_ok (x1 : Int32)   : ∀ (n : Nat) (σ : Sg) (r : Sg), lp (fX7_settle_L0 x1 ) n σ = some r → Go true 1 iX7_settle (0, [some (.ref 60), some (.int x1)], [], σ) (.inl none, r) := by
  intro n
  induction n with
  | zero => intro σ r hf; cases hf
  | succ n ih =>
    intro σ r hf
    have hf : fX7_settle_L0 x1  (lp (fX7_settle_L0 x1 ) n) σ = some r := hf
    have hrec0 := ih
    generalize lp (fX7_settle_L0 x1 ) n = rec0 at hf hrec0
    unfold fX7_settle_L0 at hf
    refine go_n 2 (f := (4, [some (.ref 60), some (.int x1)], [.int (gi σ 60 29)], σ)) rfl ?_
    by_cases h1 : (gi σ 60 29) ≤ 0
    · rw [if_pos h1] at hf
      refine go_it (t := 129) (f := 7) (L1 := [some (.ref 60), some (.int x1)]) (st1 := []) (σ1 := σ) rfl h1 ?_
      refine go_e (L1 := [none, none]) rfl rfl ?_
      cases hf
      exact go_r rfl
    · rw [if_neg h1] at hf
      refine go_if (t := 129) (f := 7) (L1 := [some (.ref 60), some (.int x1)]) (st1 := []) (σ1 := σ) rfl h1 ?_
      refine go_n 6 (f := (17, [some (.ref 60), some (.int x1)], [.int ((gi σ 60 29) - 1), .ref 70], σ)) rfl ?_
      obtain ⟨h2, hf⟩ := grd hf
      refine go_iald rfl rfl rfl h2 ?_
      obtain ⟨q3, h4, hf⟩ := bnd hf
      refine go_c (mid := 12100) (args := [.int (gi σ 70 ((gi σ 60 29) - 1).toNatClampNeg)]) (pc := 21) (L := [some (.ref 60), some (.int x1)]) (st := []) (σ := σ) rfl ((fX7_binds_ok _ _ q3 h4).deep (Nat.le_of_ble_eq_true rfl)) ?_
      refine go_n 1 (f := (22, [some (.ref 60), some (.int x1)], [.int x1, .int q3], σ)) rfl ?_
      by_cases h5 : q3 < x1
      · rw [if_pos h5] at hf
        refine go_it (t := 129) (f := 25) (L1 := [some (.ref 60), some (.int x1)]) (st1 := []) (σ1 := σ) rfl h5 ?_
        refine go_e (L1 := [none, none]) rfl rfl ?_
        cases hf
        exact go_r rfl
      · rw [if_neg h5] at hf
        refine go_if (t := 129) (f := 25) (L1 := [some (.ref 60), some (.int x1)]) (st1 := []) (σ1 := σ) rfl h5 ?_
        refine go_n 10 (f := (43, [some (.ref 60), some (.int x1)], [.int ((gi σ 60 29) - 1), .ref 70], (wi σ 60 29 ((gi σ 60 29) - 1)))) rfl ?_
        obtain ⟨h6, hf⟩ := grd hf
        refine go_iald rfl rfl rfl h6 ?_
        refine go_n 1 (f := (46, [some (.ref 60), some (.int x1)], [.int 18, .int (gi σ 70 ((gi σ 60 29) - 1).toNatClampNeg)], (wi σ 60 29 ((gi σ 60 29) - 1)))) rfl ?_
        by_cases h7 : (gi σ 70 ((gi σ 60 29) - 1).toNatClampNeg) = 18
        · rw [if_pos h7] at hf
          refine go_it (t := 63) (f := 49) (L1 := [some (.ref 60), some (.int x1)]) (st1 := []) (σ1 := (wi σ 60 29 ((gi σ 60 29) - 1))) rfl h7 ?_
          exact fX7_settle_J63_ok _ _ _ hrec0 _ hf
        · rw [if_neg h7] at hf
          refine go_if (t := 63) (f := 49) (L1 := [some (.ref 60), some (.int x1)]) (st1 := []) (σ1 := (wi σ 60 29 ((gi σ 60 29) - 1))) rfl h7 ?_
          refine go_n 4 (f := (57, [some (.ref 60), some (.int x1)], [.int ((gi σ 60 29) - 1), .ref 70], (wi σ 60 29 ((gi σ 60 29) - 1)))) rfl ?_
          obtain ⟨h10, hf⟩ := grd hf
          refine go_iald rfl rfl rfl h10 ?_
          refine go_n 1 (f := (60, [some (.ref 60), some (.int x1)], [.int 19, .int (gi σ 70 ((gi σ 60 29) - 1).toNatClampNeg)], (wi σ 60 29 ((gi σ 60 29) - 1)))) rfl ?_
          by_cases h11 : (gi σ 70 ((gi σ 60 29) - 1).toNatClampNeg) ≠ 19
          · rw [if_pos h11] at hf
            refine go_it (t := 84) (f := 63) (L1 := [some (.ref 60), some (.int x1)]) (st1 := []) (σ1 := (wi σ 60 29 ((gi σ 60 29) - 1))) rfl h11 ?_
            refine go_n 7 (f := (97, [some (.ref 60), some (.int x1)], [.int ((gi σ 60 29) - 1), .ref 70, .int (gi σ 60 30), .ref 60], (wi σ 60 29 ((gi σ 60 29) - 1)))) rfl ?_
            obtain ⟨h12, hf⟩ := grd hf
            refine go_iald rfl rfl rfl h12 ?_
            refine go_n 1 (f := (100, [some (.ref 60), some (.int x1)], [.int 15, .int (gi σ 70 ((gi σ 60 29) - 1).toNatClampNeg), .int (gi σ 60 30), .ref 60], (wi σ 60 29 ((gi σ 60 29) - 1)))) rfl ?_
            refine go_m (f := (108, [some (.ref 60), some (.int x1)], [.int ((if (gi σ 70 ((gi σ 60 29) - 1).toNatClampNeg) ≠ 15 then 0 else 1) : Int32), .int (gi σ 60 30), .ref 60], (wi σ 60 29 ((gi σ 60 29) - 1)))) ?_ (fun hJ18 => ?_)
            · generalize hz14 : ((if (gi σ 70 ((gi σ 60 29) - 1).toNatClampNeg) ≠ 15 then 0 else 1) : Int32) = z14 at hf ⊢
              have oz14 : am_ok 3 z14 = true := hz14 ▸ (okb rfl rfl)
              try dsimp only at hf
              refine go_n 7 (f := (121, [some (.ref 60), some (.int x1)], [.int ((gi σ 60 29) - 1), .ref 70, .ref 60], (wi (wi σ 60 29 ((gi σ 60 29) - 1)) 60 30 ((gi σ 60 30) - z14)))) rfl ?_
              obtain ⟨h15, hf⟩ := grd hf
              refine go_iald rfl rfl rfl h15 ?_
              refine go_n 1 (f := (123, [some (.ref 60), some (.int x1)], [.int 0, .int (gi σ 70 ((gi σ 60 29) - 1).toNatClampNeg), .ref 60], (wi (wi σ 60 29 ((gi σ 60 29) - 1)) 60 30 ((gi σ 60 30) - z14)))) rfl ?_
              obtain ⟨q16, h17, hf⟩ := bnd hf
              refine go_c (mid := 12098) (args := [.ref 60, .int (gi σ 70 ((gi σ 60 29) - 1).toNatClampNeg), .int 0]) (pc := 126) (L := [some (.ref 60), some (.int x1)]) (st := []) (σ := (wi (wi σ 60 29 ((gi σ 60 29) - 1)) 60 30 ((gi σ 60 30) - z14))) rfl ((fX7_emit_ok _ _ _ q16 h17).deep (Nat.le_of_ble_eq_true rfl)) ?_
              refine go_n 1 (f := (0, [some (.ref 60), some (.int x1)], [], q16)) rfl ?_
              exact hrec0 _ _ hf
            · by_cases h13 : (gi σ 70 ((gi σ 60 29) - 1).toNatClampNeg) ≠ 15
              · refine go_it (t := 107) (f := 103) (L1 := [some (.ref 60), some (.int x1)]) (st1 := [.int (gi σ 60 30), .ref 60]) (σ1 := (wi σ 60 29 ((gi σ 60 29) - 1))) rfl h13 ?_
                refine go_n 1 (f := (108, [some (.ref 60), some (.int x1)], [.int 0, .int (gi σ 60 30), .ref 60], (wi σ 60 29 ((gi σ 60 29) - 1)))) rfl ?_
                simp only [if_pos h13] at hJ18
                first | exact hJ18 | (simp only [if_pos h13]; exact hJ18)
              · refine go_if (t := 107) (f := 103) (L1 := [some (.ref 60), some (.int x1)]) (st1 := [.int (gi σ 60 30), .ref 60]) (σ1 := (wi σ 60 29 ((gi σ 60 29) - 1))) rfl h13 ?_
                refine go_n 2 (f := (108, [some (.ref 60), some (.int x1)], [.int 1, .int (gi σ 60 30), .ref 60], (wi σ 60 29 ((gi σ 60 29) - 1)))) rfl ?_
                simp only [if_neg h13] at hJ18
                first | exact hJ18 | (simp only [if_neg h13]; exact hJ18)
          · rw [if_neg h11] at hf
            refine go_if (t := 84) (f := 63) (L1 := [some (.ref 60), some (.int x1)]) (st1 := []) (σ1 := (wi σ 60 29 ((gi σ 60 29) - 1))) rfl h11 ?_
            exact fX7_settle_J63_ok _ _ _ hrec0 _ hf
def fX7_settle (x1 : Int32) (σ : Sg) : Option Sg :=
  lp (fX7_settle_L0 x1 ) N0 σ
set_option maxHeartbeats 1500000 in
theorem fX7_settle_ok (x1 : Int32) (σ : Sg) (r : Sg) (hf : fX7_settle x1 σ = some r) : Cl true 1 12099 [.ref 60, .int x1] σ (.inl none, r) := by
  refine ⟨iX7_settle, rfl, Nat.le_of_ble_eq_true rfl, Nat.le_of_ble_eq_true rfl, ?_⟩
  show Go true 1 iX7_settle (0, [some (.ref 60), some (.int x1)], [], σ) (.inl none, r)
  unfold fX7_settle at hf
  exact fX7_settle_L0_ok _   N0 _ _ hf
/-! OldWeatherModel.behindSum(Z)I -/
def fX7_behindSum_J216 (x2 : Int32) (s0 : Int32)  (σ : Sg) : Option (Int32 × Sg) :=
  (fX7_must s0 σ).bind fun q30 => if (gi q30 60 20) ≠ 0 then some (1, q30) else (fX7_settle 5 q30).bind fun q33 => (fX7_push x2 0 q33).bind fun q35 => some (1, q35)
set_option maxHeartbeats 1500000 in
theorem fX7_behindSum_J216_ok (x2 : Int32) (s0 : Int32)  (σ : Sg)  (r : (Int32 × Sg)) (hf : fX7_behindSum_J216 x2 s0  σ = some r) : Go true 3 iX7_behindSum (216, [some (.ref 60), none, some (.int x2), none], [.int s0, .ref 60], σ) (.inl (some (.int (r).1)), (r).2) := by
  unfold fX7_behindSum_J216 at hf
  obtain ⟨q30, h31, hf⟩ := bnd hf
  refine go_c (mid := 12086) (args := [.ref 60, .int s0]) (pc := 219) (L := [some (.ref 60), none, some (.int x2), none]) (st := []) (σ := σ) rfl ((fX7_must_ok _ _ q30 h31).deep (Nat.le_of_ble_eq_true rfl)) ?_
  refine go_n 2 (f := (223, [some (.ref 60), none, some (.int x2), none], [.int (gi q30 60 20)], q30)) rfl ?_
  by_cases h32 : (gi q30 60 20) ≠ 0
  · rw [if_pos h32] at hf
    refine go_it (t := 237) (f := 226) (L1 := [some (.ref 60), none, some (.int x2), none]) (st1 := []) (σ1 := q30) rfl h32 ?_
    refine go_e (L1 := [none, none, none, none]) rfl rfl ?_
    refine go_n 1 (f := (238, [none, none, none, none], [.int 1], q30)) rfl ?_
    cases hf
    exact go_r rfl
  · rw [if_neg h32] at hf
    refine go_if (t := 237) (f := 226) (L1 := [some (.ref 60), none, some (.int x2), none]) (st1 := []) (σ1 := q30) rfl h32 ?_
    refine go_n 2 (f := (228, [some (.ref 60), none, some (.int x2), none], [.int 5, .ref 60], q30)) rfl ?_
    obtain ⟨q33, h34, hf⟩ := bnd hf
    refine go_c (mid := 12099) (args := [.ref 60, .int 5]) (pc := 231) (L := [some (.ref 60), none, some (.int x2), none]) (st := []) (σ := q30) rfl ((fX7_settle_ok _ _ q33 h34).deep (Nat.le_of_ble_eq_true rfl)) ?_
    refine go_n 3 (f := (234, [some (.ref 60), none, some (.int x2), none], [.int 0, .int x2, .ref 60], q33)) rfl ?_
    obtain ⟨q35, h36, hf⟩ := bnd hf
    refine go_c (mid := 12093) (args := [.ref 60, .int x2, .int 0]) (pc := 237) (L := [some (.ref 60), none, some (.int x2), none]) (st := []) (σ := q33) rfl ((fX7_push_ok _ _ _ q35 h36).deep (Nat.le_of_ble_eq_true rfl)) ?_
    refine go_e (L1 := [none, none, none, none]) rfl rfl ?_
    refine go_n 1 (f := (238, [none, none, none, none], [.int 1], q35)) rfl ?_
    cases hf
    exact go_r rfl
def fX7_behindSum_J211 (x2 : Int32)  (σ : Sg) : Option (Int32 × Sg) :=
  fX7_behindSum_J216 x2 1  σ
set_option maxHeartbeats 1500000 in
theorem fX7_behindSum_J211_ok (x2 : Int32)  (σ : Sg)  (r : (Int32 × Sg)) (hf : fX7_behindSum_J211 x2  σ = some r) : Go true 3 iX7_behindSum (211, [some (.ref 60), none, some (.int x2), none], [.ref 60], σ) (.inl (some (.int (r).1)), (r).2) := by
  unfold fX7_behindSum_J211 at hf
  refine go_n 2 (f := (216, [some (.ref 60), none, some (.int x2), none], [.int 1, .ref 60], σ)) rfl ?_
  exact fX7_behindSum_J216_ok _ _  _  _ hf
def fX7_behindSum_J194 (s0 : Int32)  (σ : Sg) : Option (Int32 × Sg) :=
  if s0 ≠ 14 then fX7_behindSum_J211 s0  σ else (fX7_isSign 61 σ).bind fun q51 => ((fun (z54 : Int32) => (fX7_must z54 σ).bind fun q55 => if (gi q55 60 20) ≠ 0 then some (1, q55) else (fX7_settle 5 q55).bind fun q58 => (fX7_push s0 0 q58).bind fun q60 => some (1, q60)) ((if q51 = 0 then 0 else 1) : Int32))
set_option maxHeartbeats 1500000 in
theorem fX7_behindSum_J194_ok (s0 : Int32)  (σ : Sg)  (r : (Int32 × Sg)) (hf : fX7_behindSum_J194 s0  σ = some r) : Go true 3 iX7_behindSum (194, [some (.ref 60), none, none, none], [.int s0], σ) (.inl (some (.int (r).1)), (r).2) := by
  unfold fX7_behindSum_J194 at hf
  refine go_n 4 (f := (199, [some (.ref 60), none, some (.int s0), none], [.int 14, .int s0, .ref 60], σ)) rfl ?_
  by_cases h50 : s0 ≠ 14
  · rw [if_pos h50] at hf
    refine go_it (t := 211) (f := 202) (L1 := [some (.ref 60), none, some (.int s0), none]) (st1 := [.ref 60]) (σ1 := σ) rfl h50 ?_
    exact fX7_behindSum_J211_ok _  _  _ hf
  · rw [if_neg h50] at hf
    refine go_if (t := 211) (f := 202) (L1 := [some (.ref 60), none, some (.int s0), none]) (st1 := [.ref 60]) (σ1 := σ) rfl h50 ?_
    refine go_n 2 (f := (205, [some (.ref 60), none, some (.int s0), none], [.int 61, .ref 60, .ref 60], σ)) rfl ?_
    obtain ⟨q51, h52, hf⟩ := bnd hf
    refine go_c (mid := 12094) (args := [.ref 60, .int 61]) (pc := 208) (L := [some (.ref 60), none, some (.int s0), none]) (st := [.ref 60]) (σ := σ) rfl ((fX7_isSign_ok _ _ q51 h52).deep (Nat.le_of_ble_eq_true rfl)) ?_
    refine go_m (f := (216, [some (.ref 60), none, some (.int s0), none], [.int ((if q51 = 0 then 0 else 1) : Int32), .ref 60], σ)) ?_ (fun hJ62 => ?_)
    · generalize hz54 : ((if q51 = 0 then 0 else 1) : Int32) = z54 at hf ⊢
      have oz54 : am_ok 3 z54 = true := hz54 ▸ (okb rfl rfl)
      try dsimp only at hf
      obtain ⟨q55, h56, hf⟩ := bnd hf
      refine go_c (mid := 12086) (args := [.ref 60, .int z54]) (pc := 219) (L := [some (.ref 60), none, some (.int s0), none]) (st := []) (σ := σ) rfl ((fX7_must_ok _ _ q55 h56).deep (Nat.le_of_ble_eq_true rfl)) ?_
      refine go_n 2 (f := (223, [some (.ref 60), none, some (.int s0), none], [.int (gi q55 60 20)], q55)) rfl ?_
      by_cases h57 : (gi q55 60 20) ≠ 0
      · rw [if_pos h57] at hf
        refine go_it (t := 237) (f := 226) (L1 := [some (.ref 60), none, some (.int s0), none]) (st1 := []) (σ1 := q55) rfl h57 ?_
        refine go_e (L1 := [none, none, none, none]) rfl rfl ?_
        refine go_n 1 (f := (238, [none, none, none, none], [.int 1], q55)) rfl ?_
        cases hf
        exact go_r rfl
      · rw [if_neg h57] at hf
        refine go_if (t := 237) (f := 226) (L1 := [some (.ref 60), none, some (.int s0), none]) (st1 := []) (σ1 := q55) rfl h57 ?_
        refine go_n 2 (f := (228, [some (.ref 60), none, some (.int s0), none], [.int 5, .ref 60], q55)) rfl ?_
        obtain ⟨q58, h59, hf⟩ := bnd hf
        refine go_c (mid := 12099) (args := [.ref 60, .int 5]) (pc := 231) (L := [some (.ref 60), none, some (.int s0), none]) (st := []) (σ := q55) rfl ((fX7_settle_ok _ _ q58 h59).deep (Nat.le_of_ble_eq_true rfl)) ?_
        refine go_n 3 (f := (234, [some (.ref 60), none, some (.int s0), none], [.int 0, .int s0, .ref 60], q58)) rfl ?_
        obtain ⟨q60, h61, hf⟩ := bnd hf
        refine go_c (mid := 12093) (args := [.ref 60, .int s0, .int 0]) (pc := 237) (L := [some (.ref 60), none, some (.int s0), none]) (st := []) (σ := q58) rfl ((fX7_push_ok _ _ _ q60 h61).deep (Nat.le_of_ble_eq_true rfl)) ?_
        refine go_e (L1 := [none, none, none, none]) rfl rfl ?_
        refine go_n 1 (f := (238, [none, none, none, none], [.int 1], q60)) rfl ?_
        cases hf
        exact go_r rfl
    · by_cases h53 : q51 = 0
      · refine go_it (t := 215) (f := 211) (L1 := [some (.ref 60), none, some (.int s0), none]) (st1 := [.ref 60]) (σ1 := σ) rfl h53 ?_
        refine go_n 1 (f := (216, [some (.ref 60), none, some (.int s0), none], [.int 0, .ref 60], σ)) rfl ?_
        refine go_e (L1 := [some (.ref 60), none, some (.int s0), none]) rfl rfl ?_
        simp only [if_pos h53] at hJ62
        first | exact hJ62 | (simp only [if_pos h53]; exact hJ62)
      · refine go_if (t := 215) (f := 211) (L1 := [some (.ref 60), none, some (.int s0), none]) (st1 := [.ref 60]) (σ1 := σ) rfl h53 ?_
        refine go_n 2 (f := (216, [some (.ref 60), none, some (.int s0), none], [.int 1, .ref 60], σ)) rfl ?_
        refine go_e (L1 := [some (.ref 60), none, some (.int s0), none]) rfl rfl ?_
        simp only [if_neg h53] at hJ62
        first | exact hJ62 | (simp only [if_neg h53]; exact hJ62)
def fX7_behindSum_J155   (σ : Sg) : Option (Int32 × Sg) :=
  (fX7_isCompared  σ).bind fun q19 => if q19 = 0 then (fX7_isSign 60 σ).bind fun q22 => if q22 = 0 then (fX7_isSign 62 σ).bind fun q25 => ((fun (z28 : Int32) => if z28 ≠ 14 then fX7_behindSum_J211 z28  σ else (fX7_isSign 61 σ).bind fun q37 => ((fun (z40 : Int32) => (fX7_must z40 σ).bind fun q41 => if (gi q41 60 20) ≠ 0 then some (1, q41) else (fX7_settle 5 q41).bind fun q44 => (fX7_push z28 0 q44).bind fun q46 => some (1, q46)) ((if q37 = 0 then 0 else 1) : Int32))) ((if q25 = 0 then 14 else 13) : Int32)) else fX7_behindSum_J194 12  σ else some (2, σ)
set_option maxHeartbeats 1500000 in
theorem fX7_behindSum_J155_ok   (σ : Sg)  (r : (Int32 × Sg)) (hf : fX7_behindSum_J155   σ = some r) : Go true 3 iX7_behindSum (155, [some (.ref 60), none, none, none], [], σ) (.inl (some (.int (r).1)), (r).2) := by
  unfold fX7_behindSum_J155 at hf
  refine go_n 1 (f := (156, [some (.ref 60), none, none, none], [.ref 60], σ)) rfl ?_
  obtain ⟨q19, h20, hf⟩ := bnd hf
  refine go_c (mid := 12103) (args := [.ref 60]) (pc := 159) (L := [some (.ref 60), none, none, none]) (st := []) (σ := σ) rfl ((fX7_isCompared_ok _ q19 h20).deep (Nat.le_of_ble_eq_true rfl)) ?_
  by_cases h21 : q19 = 0
  · rw [if_pos h21] at hf
    refine go_it (t := 164) (f := 162) (L1 := [some (.ref 60), none, none, none]) (st1 := []) (σ1 := σ) rfl h21 ?_
    refine go_n 2 (f := (167, [some (.ref 60), none, none, none], [.int 60, .ref 60], σ)) rfl ?_
    obtain ⟨q22, h23, hf⟩ := bnd hf
    refine go_c (mid := 12094) (args := [.ref 60, .int 60]) (pc := 170) (L := [some (.ref 60), none, none, none]) (st := []) (σ := σ) rfl ((fX7_isSign_ok _ _ q22 h23).deep (Nat.le_of_ble_eq_true rfl)) ?_
    by_cases h24 : q22 = 0
    · rw [if_pos h24] at hf
      refine go_it (t := 178) (f := 173) (L1 := [some (.ref 60), none, none, none]) (st1 := []) (σ1 := σ) rfl h24 ?_
      refine go_n 2 (f := (181, [some (.ref 60), none, none, none], [.int 62, .ref 60], σ)) rfl ?_
      obtain ⟨q25, h26, hf⟩ := bnd hf
      refine go_c (mid := 12094) (args := [.ref 60, .int 62]) (pc := 184) (L := [some (.ref 60), none, none, none]) (st := []) (σ := σ) rfl ((fX7_isSign_ok _ _ q25 h26).deep (Nat.le_of_ble_eq_true rfl)) ?_
      refine go_m (f := (194, [some (.ref 60), none, none, none], [.int ((if q25 = 0 then 14 else 13) : Int32)], σ)) ?_ (fun hJ49 => ?_)
      · generalize hz28 : ((if q25 = 0 then 14 else 13) : Int32) = z28 at hf ⊢
        try dsimp only at hf
        refine go_n 4 (f := (199, [some (.ref 60), none, some (.int z28), none], [.int 14, .int z28, .ref 60], σ)) rfl ?_
        by_cases h29 : z28 ≠ 14
        · rw [if_pos h29] at hf
          refine go_it (t := 211) (f := 202) (L1 := [some (.ref 60), none, some (.int z28), none]) (st1 := [.ref 60]) (σ1 := σ) rfl h29 ?_
          exact fX7_behindSum_J211_ok _  _  _ hf
        · rw [if_neg h29] at hf
          refine go_if (t := 211) (f := 202) (L1 := [some (.ref 60), none, some (.int z28), none]) (st1 := [.ref 60]) (σ1 := σ) rfl h29 ?_
          refine go_n 2 (f := (205, [some (.ref 60), none, some (.int z28), none], [.int 61, .ref 60, .ref 60], σ)) rfl ?_
          obtain ⟨q37, h38, hf⟩ := bnd hf
          refine go_c (mid := 12094) (args := [.ref 60, .int 61]) (pc := 208) (L := [some (.ref 60), none, some (.int z28), none]) (st := [.ref 60]) (σ := σ) rfl ((fX7_isSign_ok _ _ q37 h38).deep (Nat.le_of_ble_eq_true rfl)) ?_
          refine go_m (f := (216, [some (.ref 60), none, some (.int z28), none], [.int ((if q37 = 0 then 0 else 1) : Int32), .ref 60], σ)) ?_ (fun hJ48 => ?_)
          · generalize hz40 : ((if q37 = 0 then 0 else 1) : Int32) = z40 at hf ⊢
            have oz40 : am_ok 3 z40 = true := hz40 ▸ (okb rfl rfl)
            try dsimp only at hf
            obtain ⟨q41, h42, hf⟩ := bnd hf
            refine go_c (mid := 12086) (args := [.ref 60, .int z40]) (pc := 219) (L := [some (.ref 60), none, some (.int z28), none]) (st := []) (σ := σ) rfl ((fX7_must_ok _ _ q41 h42).deep (Nat.le_of_ble_eq_true rfl)) ?_
            refine go_n 2 (f := (223, [some (.ref 60), none, some (.int z28), none], [.int (gi q41 60 20)], q41)) rfl ?_
            by_cases h43 : (gi q41 60 20) ≠ 0
            · rw [if_pos h43] at hf
              refine go_it (t := 237) (f := 226) (L1 := [some (.ref 60), none, some (.int z28), none]) (st1 := []) (σ1 := q41) rfl h43 ?_
              refine go_e (L1 := [none, none, none, none]) rfl rfl ?_
              refine go_n 1 (f := (238, [none, none, none, none], [.int 1], q41)) rfl ?_
              cases hf
              exact go_r rfl
            · rw [if_neg h43] at hf
              refine go_if (t := 237) (f := 226) (L1 := [some (.ref 60), none, some (.int z28), none]) (st1 := []) (σ1 := q41) rfl h43 ?_
              refine go_n 2 (f := (228, [some (.ref 60), none, some (.int z28), none], [.int 5, .ref 60], q41)) rfl ?_
              obtain ⟨q44, h45, hf⟩ := bnd hf
              refine go_c (mid := 12099) (args := [.ref 60, .int 5]) (pc := 231) (L := [some (.ref 60), none, some (.int z28), none]) (st := []) (σ := q41) rfl ((fX7_settle_ok _ _ q44 h45).deep (Nat.le_of_ble_eq_true rfl)) ?_
              refine go_n 3 (f := (234, [some (.ref 60), none, some (.int z28), none], [.int 0, .int z28, .ref 60], q44)) rfl ?_
              obtain ⟨q46, h47, hf⟩ := bnd hf
              refine go_c (mid := 12093) (args := [.ref 60, .int z28, .int 0]) (pc := 237) (L := [some (.ref 60), none, some (.int z28), none]) (st := []) (σ := q44) rfl ((fX7_push_ok _ _ _ q46 h47).deep (Nat.le_of_ble_eq_true rfl)) ?_
              refine go_e (L1 := [none, none, none, none]) rfl rfl ?_
              refine go_n 1 (f := (238, [none, none, none, none], [.int 1], q46)) rfl ?_
              cases hf
              exact go_r rfl
          · by_cases h39 : q37 = 0
            · refine go_it (t := 215) (f := 211) (L1 := [some (.ref 60), none, some (.int z28), none]) (st1 := [.ref 60]) (σ1 := σ) rfl h39 ?_
              refine go_n 1 (f := (216, [some (.ref 60), none, some (.int z28), none], [.int 0, .ref 60], σ)) rfl ?_
              refine go_e (L1 := [some (.ref 60), none, some (.int z28), none]) rfl rfl ?_
              simp only [if_pos h39] at hJ48
              first | exact hJ48 | (simp only [if_pos h39]; exact hJ48)
            · refine go_if (t := 215) (f := 211) (L1 := [some (.ref 60), none, some (.int z28), none]) (st1 := [.ref 60]) (σ1 := σ) rfl h39 ?_
              refine go_n 2 (f := (216, [some (.ref 60), none, some (.int z28), none], [.int 1, .ref 60], σ)) rfl ?_
              refine go_e (L1 := [some (.ref 60), none, some (.int z28), none]) rfl rfl ?_
              simp only [if_neg h39] at hJ48
              first | exact hJ48 | (simp only [if_neg h39]; exact hJ48)
      · by_cases h27 : q25 = 0
        · refine go_it (t := 192) (f := 187) (L1 := [some (.ref 60), none, none, none]) (st1 := []) (σ1 := σ) rfl h27 ?_
          refine go_n 1 (f := (194, [some (.ref 60), none, none, none], [.int 14], σ)) rfl ?_
          refine go_e (L1 := [some (.ref 60), none, none, none]) rfl rfl ?_
          simp only [if_pos h27] at hJ49
          first | exact hJ49 | (simp only [if_pos h27]; exact hJ49)
        · refine go_if (t := 192) (f := 187) (L1 := [some (.ref 60), none, none, none]) (st1 := []) (σ1 := σ) rfl h27 ?_
          refine go_n 2 (f := (194, [some (.ref 60), none, none, none], [.int 13], σ)) rfl ?_
          refine go_e (L1 := [some (.ref 60), none, none, none]) rfl rfl ?_
          simp only [if_neg h27] at hJ49
          first | exact hJ49 | (simp only [if_neg h27]; exact hJ49)
    · rw [if_neg h24] at hf
      refine go_if (t := 178) (f := 173) (L1 := [some (.ref 60), none, none, none]) (st1 := []) (σ1 := σ) rfl h24 ?_
      refine go_n 2 (f := (194, [some (.ref 60), none, none, none], [.int 12], σ)) rfl ?_
      exact fX7_behindSum_J194_ok _  _  _ hf
  · rw [if_neg h21] at hf
    refine go_if (t := 164) (f := 162) (L1 := [some (.ref 60), none, none, none]) (st1 := []) (σ1 := σ) rfl h21 ?_
    refine go_n 1 (f := (163, [some (.ref 60), none, none, none], [.int 2], σ)) rfl ?_
    cases hf
    exact go_r rfl
def fX7_behindSum_J57 (x1 : Int32) (s0 : Int32)  (σ : Sg) : Option (Int32 × Sg) :=
  if s0 = (-1) then (fX7_inner  σ).bind fun q83 => if q83 ≠ 31 then if q83 ≠ (-1) then fX7_behindSum_J155   σ else if x1 ≠ 0 then fX7_behindSum_J155   σ else some (4, σ) else (fX7_isSign 93 σ).bind fun q88 => (fX7_must q88 σ).bind fun q90 => if (gi q90 60 20) ≠ 0 then some (3, q90) else (fX7_settle 5 q90).bind fun q93 => (fX7_settle 7 (wi (wi q93 60 29 ((gi q93 60 29) - 1)) 60 30 ((gi q93 60 30) - 1))).bind fun q95 => some (3, q95) else (fX7_binds s0).bind fun q97 => (fX7_settle q97 σ).bind fun q99 => (fX7_push s0 0 q99).bind fun q101 => (fX7_next  q101).bind fun q103 => some (1, q103)
set_option maxHeartbeats 1500000 in
theorem fX7_behindSum_J57_ok (x1 : Int32) (s0 : Int32)  (σ : Sg)  (r : (Int32 × Sg)) (hf : fX7_behindSum_J57 x1 s0  σ = some r) : Go true 3 iX7_behindSum (57, [some (.ref 60), some (.int x1), none, none], [.int s0], σ) (.inl (some (.int (r).1)), (r).2) := by
  unfold fX7_behindSum_J57 at hf
  refine go_n 3 (f := (60, [some (.ref 60), some (.int x1), some (.int s0), none], [.int (-1), .int s0], σ)) rfl ?_
  by_cases h82 : s0 = (-1)
  · rw [if_pos h82] at hf
    refine go_it (t := 83) (f := 63) (L1 := [some (.ref 60), some (.int x1), some (.int s0), none]) (st1 := []) (σ1 := σ) rfl h82 ?_
    refine go_n 1 (f := (84, [some (.ref 60), some (.int x1), some (.int s0), none], [.ref 60], σ)) rfl ?_
    obtain ⟨q83, h84, hf⟩ := bnd hf
    refine go_c (mid := 12102) (args := [.ref 60]) (pc := 87) (L := [some (.ref 60), some (.int x1), some (.int s0), none]) (st := []) (σ := σ) rfl ((fX7_inner_ok _ q83 h84).deep (Nat.le_of_ble_eq_true rfl)) ?_
    refine go_n 3 (f := (91, [some (.ref 60), some (.int x1), some (.int s0), some (.int q83)], [.int 31, .int q83], σ)) rfl ?_
    by_cases h85 : q83 ≠ 31
    · rw [if_pos h85] at hf
      refine go_it (t := 144) (f := 94) (L1 := [some (.ref 60), some (.int x1), some (.int s0), some (.int q83)]) (st1 := []) (σ1 := σ) rfl h85 ?_
      refine go_n 2 (f := (146, [some (.ref 60), some (.int x1), some (.int s0), some (.int q83)], [.int (-1), .int q83], σ)) rfl ?_
      by_cases h86 : q83 ≠ (-1)
      · rw [if_pos h86] at hf
        refine go_it (t := 155) (f := 149) (L1 := [some (.ref 60), some (.int x1), some (.int s0), some (.int q83)]) (st1 := []) (σ1 := σ) rfl h86 ?_
        refine go_e (L1 := [some (.ref 60), none, none, none]) rfl rfl ?_
        exact fX7_behindSum_J155_ok   _  _ hf
      · rw [if_neg h86] at hf
        refine go_if (t := 155) (f := 149) (L1 := [some (.ref 60), some (.int x1), some (.int s0), some (.int q83)]) (st1 := []) (σ1 := σ) rfl h86 ?_
        refine go_n 1 (f := (150, [some (.ref 60), some (.int x1), some (.int s0), some (.int q83)], [.int x1], σ)) rfl ?_
        by_cases h87 : x1 ≠ 0
        · rw [if_pos h87] at hf
          refine go_it (t := 155) (f := 153) (L1 := [some (.ref 60), some (.int x1), some (.int s0), some (.int q83)]) (st1 := []) (σ1 := σ) rfl h87 ?_
          refine go_e (L1 := [some (.ref 60), none, none, none]) rfl rfl ?_
          exact fX7_behindSum_J155_ok   _  _ hf
        · rw [if_neg h87] at hf
          refine go_if (t := 155) (f := 153) (L1 := [some (.ref 60), some (.int x1), some (.int s0), some (.int q83)]) (st1 := []) (σ1 := σ) rfl h87 ?_
          refine go_n 1 (f := (154, [some (.ref 60), some (.int x1), some (.int s0), some (.int q83)], [.int 4], σ)) rfl ?_
          cases hf
          exact go_r rfl
    · rw [if_neg h85] at hf
      refine go_if (t := 144) (f := 94) (L1 := [some (.ref 60), some (.int x1), some (.int s0), some (.int q83)]) (st1 := []) (σ1 := σ) rfl h85 ?_
      refine go_n 3 (f := (98, [some (.ref 60), some (.int x1), some (.int s0), some (.int q83)], [.int 93, .ref 60, .ref 60], σ)) rfl ?_
      obtain ⟨q88, h89, hf⟩ := bnd hf
      refine go_c (mid := 12094) (args := [.ref 60, .int 93]) (pc := 101) (L := [some (.ref 60), some (.int x1), some (.int s0), some (.int q83)]) (st := [.ref 60]) (σ := σ) rfl ((fX7_isSign_ok _ _ q88 h89).deep (Nat.le_of_ble_eq_true rfl)) ?_
      obtain ⟨q90, h91, hf⟩ := bnd hf
      refine go_c (mid := 12086) (args := [.ref 60, .int q88]) (pc := 104) (L := [some (.ref 60), some (.int x1), some (.int s0), some (.int q83)]) (st := []) (σ := σ) rfl ((fX7_must_ok _ _ q90 h91).deep (Nat.le_of_ble_eq_true rfl)) ?_
      refine go_n 2 (f := (108, [some (.ref 60), some (.int x1), some (.int s0), some (.int q83)], [.int (gi q90 60 20)], q90)) rfl ?_
      by_cases h92 : (gi q90 60 20) ≠ 0
      · rw [if_pos h92] at hf
        refine go_it (t := 142) (f := 111) (L1 := [some (.ref 60), some (.int x1), some (.int s0), some (.int q83)]) (st1 := []) (σ1 := q90) rfl h92 ?_
        refine go_e (L1 := [none, none, none, none]) rfl rfl ?_
        refine go_n 1 (f := (143, [none, none, none, none], [.int 3], q90)) rfl ?_
        cases hf
        exact go_r rfl
      · rw [if_neg h92] at hf
        refine go_if (t := 142) (f := 111) (L1 := [some (.ref 60), some (.int x1), some (.int s0), some (.int q83)]) (st1 := []) (σ1 := q90) rfl h92 ?_
        refine go_n 2 (f := (113, [some (.ref 60), some (.int x1), some (.int s0), some (.int q83)], [.int 5, .ref 60], q90)) rfl ?_
        obtain ⟨q93, h94, hf⟩ := bnd hf
        refine go_c (mid := 12099) (args := [.ref 60, .int 5]) (pc := 116) (L := [some (.ref 60), some (.int x1), some (.int s0), some (.int q83)]) (st := []) (σ := q90) rfl ((fX7_settle_ok _ _ q93 h94).deep (Nat.le_of_ble_eq_true rfl)) ?_
        refine go_n 10 (f := (132, [some (.ref 60), some (.int x1), some (.int s0), some (.int q83)], [.int 1, .int (gi q93 60 30), .ref 60], (wi q93 60 29 ((gi q93 60 29) - 1)))) rfl ?_
        refine go_n 4 (f := (139, [some (.ref 60), some (.int x1), some (.int s0), some (.int q83)], [.int 7, .ref 60], (wi (wi q93 60 29 ((gi q93 60 29) - 1)) 60 30 ((gi q93 60 30) - 1)))) rfl ?_
        obtain ⟨q95, h96, hf⟩ := bnd hf
        refine go_c (mid := 12099) (args := [.ref 60, .int 7]) (pc := 142) (L := [some (.ref 60), some (.int x1), some (.int s0), some (.int q83)]) (st := []) (σ := (wi (wi q93 60 29 ((gi q93 60 29) - 1)) 60 30 ((gi q93 60 30) - 1))) rfl ((fX7_settle_ok _ _ q95 h96).deep (Nat.le_of_ble_eq_true rfl)) ?_
        refine go_e (L1 := [none, none, none, none]) rfl rfl ?_
        refine go_n 1 (f := (143, [none, none, none, none], [.int 3], q95)) rfl ?_
        cases hf
        exact go_r rfl
  · rw [if_neg h82] at hf
    refine go_if (t := 83) (f := 63) (L1 := [some (.ref 60), some (.int x1), some (.int s0), none]) (st1 := []) (σ1 := σ) rfl h82 ?_
    refine go_n 2 (f := (65, [some (.ref 60), some (.int x1), some (.int s0), none], [.int s0, .ref 60], σ)) rfl ?_
    obtain ⟨q97, h98, hf⟩ := bnd hf
    refine go_c (mid := 12100) (args := [.int s0]) (pc := 68) (L := [some (.ref 60), some (.int x1), some (.int s0), none]) (st := [.ref 60]) (σ := σ) rfl ((fX7_binds_ok _ _ q97 h98).deep (Nat.le_of_ble_eq_true rfl)) ?_
    obtain ⟨q99, h100, hf⟩ := bnd hf
    refine go_c (mid := 12099) (args := [.ref 60, .int q97]) (pc := 71) (L := [some (.ref 60), some (.int x1), some (.int s0), none]) (st := []) (σ := σ) rfl ((fX7_settle_ok _ _ q99 h100).deep (Nat.le_of_ble_eq_true rfl)) ?_
    refine go_n 3 (f := (74, [some (.ref 60), some (.int x1), some (.int s0), none], [.int 0, .int s0, .ref 60], q99)) rfl ?_
    obtain ⟨q101, h102, hf⟩ := bnd hf
    refine go_c (mid := 12093) (args := [.ref 60, .int s0, .int 0]) (pc := 77) (L := [some (.ref 60), some (.int x1), some (.int s0), none]) (st := []) (σ := q99) rfl ((fX7_push_ok _ _ _ q101 h102).deep (Nat.le_of_ble_eq_true rfl)) ?_
    refine go_n 1 (f := (78, [some (.ref 60), some (.int x1), some (.int s0), none], [.ref 60], q101)) rfl ?_
    obtain ⟨q103, h104, hf⟩ := bnd hf
    refine go_c (mid := 12080) (args := [.ref 60]) (pc := 81) (L := [some (.ref 60), some (.int x1), some (.int s0), none]) (st := []) (σ := q101) rfl ((fX7_next_ok _ q103 h104).deep (Nat.le_of_ble_eq_true rfl)) ?_
    refine go_n 1 (f := (82, [some (.ref 60), some (.int x1), some (.int s0), none], [.int 1], q103)) rfl ?_
    cases hf
    exact go_r rfl
def fX7_behindSum (x1 : Int32) (σ : Sg) : Option (Int32 × Sg) :=
  (fX7_isSign 43 σ).bind fun q1 => if q1 = 0 then (fX7_isSign 45 σ).bind fun q4 => if q4 = 0 then (fX7_isSign 42 σ).bind fun q7 => if q7 = 0 then (fX7_isSign 47 σ).bind fun q10 => ((fun (z13 : Int32) => if z13 = (-1) then (fX7_inner  σ).bind fun q15 => if q15 ≠ 31 then if q15 ≠ (-1) then fX7_behindSum_J155   σ else if x1 ≠ 0 then fX7_behindSum_J155   σ else some (4, σ) else (fX7_isSign 93 σ).bind fun q64 => (fX7_must q64 σ).bind fun q66 => if (gi q66 60 20) ≠ 0 then some (3, q66) else (fX7_settle 5 q66).bind fun q69 => (fX7_settle 7 (wi (wi q69 60 29 ((gi q69 60 29) - 1)) 60 30 ((gi q69 60 30) - 1))).bind fun q71 => some (3, q71) else (fX7_binds z13).bind fun q73 => (fX7_settle q73 σ).bind fun q75 => (fX7_push z13 0 q75).bind fun q77 => (fX7_next  q77).bind fun q79 => some (1, q79)) ((if q10 = 0 then (-1) else 11) : Int32)) else fX7_behindSum_J57 x1 10  σ else fX7_behindSum_J57 x1 9  σ else fX7_behindSum_J57 x1 8  σ
set_option maxHeartbeats 1500000 in
theorem fX7_behindSum_ok (x1 : Int32) (σ : Sg) (r : (Int32 × Sg)) (hf : fX7_behindSum x1 σ = some r) : Cl true 3 12101 [.ref 60, .int x1] σ (.inl (some (.int (r).1)), (r).2) := by
  refine ⟨iX7_behindSum, rfl, Nat.le_of_ble_eq_true rfl, Nat.le_of_ble_eq_true rfl, ?_⟩
  show Go true 3 iX7_behindSum (0, [some (.ref 60), some (.int x1), none, none], [], σ) (.inl (some (.int (r).1)), (r).2)
  unfold fX7_behindSum at hf
  refine go_n 2 (f := (3, [some (.ref 60), some (.int x1), none, none], [.int 43, .ref 60], σ)) rfl ?_
  obtain ⟨q1, h2, hf⟩ := bnd hf
  refine go_c (mid := 12094) (args := [.ref 60, .int 43]) (pc := 6) (L := [some (.ref 60), some (.int x1), none, none]) (st := []) (σ := σ) rfl ((fX7_isSign_ok _ _ q1 h2).deep (Nat.le_of_ble_eq_true rfl)) ?_
  by_cases h3 : q1 = 0
  · rw [if_pos h3] at hf
    refine go_it (t := 14) (f := 9) (L1 := [some (.ref 60), some (.int x1), none, none]) (st1 := []) (σ1 := σ) rfl h3 ?_
    refine go_n 2 (f := (17, [some (.ref 60), some (.int x1), none, none], [.int 45, .ref 60], σ)) rfl ?_
    obtain ⟨q4, h5, hf⟩ := bnd hf
    refine go_c (mid := 12094) (args := [.ref 60, .int 45]) (pc := 20) (L := [some (.ref 60), some (.int x1), none, none]) (st := []) (σ := σ) rfl ((fX7_isSign_ok _ _ q4 h5).deep (Nat.le_of_ble_eq_true rfl)) ?_
    by_cases h6 : q4 = 0
    · rw [if_pos h6] at hf
      refine go_it (t := 28) (f := 23) (L1 := [some (.ref 60), some (.int x1), none, none]) (st1 := []) (σ1 := σ) rfl h6 ?_
      refine go_n 2 (f := (31, [some (.ref 60), some (.int x1), none, none], [.int 42, .ref 60], σ)) rfl ?_
      obtain ⟨q7, h8, hf⟩ := bnd hf
      refine go_c (mid := 12094) (args := [.ref 60, .int 42]) (pc := 34) (L := [some (.ref 60), some (.int x1), none, none]) (st := []) (σ := σ) rfl ((fX7_isSign_ok _ _ q7 h8).deep (Nat.le_of_ble_eq_true rfl)) ?_
      by_cases h9 : q7 = 0
      · rw [if_pos h9] at hf
        refine go_it (t := 42) (f := 37) (L1 := [some (.ref 60), some (.int x1), none, none]) (st1 := []) (σ1 := σ) rfl h9 ?_
        refine go_n 2 (f := (45, [some (.ref 60), some (.int x1), none, none], [.int 47, .ref 60], σ)) rfl ?_
        obtain ⟨q10, h11, hf⟩ := bnd hf
        refine go_c (mid := 12094) (args := [.ref 60, .int 47]) (pc := 48) (L := [some (.ref 60), some (.int x1), none, none]) (st := []) (σ := σ) rfl ((fX7_isSign_ok _ _ q10 h11).deep (Nat.le_of_ble_eq_true rfl)) ?_
        refine go_m (f := (57, [some (.ref 60), some (.int x1), none, none], [.int ((if q10 = 0 then (-1) else 11) : Int32)], σ)) ?_ (fun hJ81 => ?_)
        · generalize hz13 : ((if q10 = 0 then (-1) else 11) : Int32) = z13 at hf ⊢
          try dsimp only at hf
          refine go_n 3 (f := (60, [some (.ref 60), some (.int x1), some (.int z13), none], [.int (-1), .int z13], σ)) rfl ?_
          by_cases h14 : z13 = (-1)
          · rw [if_pos h14] at hf
            refine go_it (t := 83) (f := 63) (L1 := [some (.ref 60), some (.int x1), some (.int z13), none]) (st1 := []) (σ1 := σ) rfl h14 ?_
            refine go_n 1 (f := (84, [some (.ref 60), some (.int x1), some (.int z13), none], [.ref 60], σ)) rfl ?_
            obtain ⟨q15, h16, hf⟩ := bnd hf
            refine go_c (mid := 12102) (args := [.ref 60]) (pc := 87) (L := [some (.ref 60), some (.int x1), some (.int z13), none]) (st := []) (σ := σ) rfl ((fX7_inner_ok _ q15 h16).deep (Nat.le_of_ble_eq_true rfl)) ?_
            refine go_n 3 (f := (91, [some (.ref 60), some (.int x1), some (.int z13), some (.int q15)], [.int 31, .int q15], σ)) rfl ?_
            by_cases h17 : q15 ≠ 31
            · rw [if_pos h17] at hf
              refine go_it (t := 144) (f := 94) (L1 := [some (.ref 60), some (.int x1), some (.int z13), some (.int q15)]) (st1 := []) (σ1 := σ) rfl h17 ?_
              refine go_n 2 (f := (146, [some (.ref 60), some (.int x1), some (.int z13), some (.int q15)], [.int (-1), .int q15], σ)) rfl ?_
              by_cases h18 : q15 ≠ (-1)
              · rw [if_pos h18] at hf
                refine go_it (t := 155) (f := 149) (L1 := [some (.ref 60), some (.int x1), some (.int z13), some (.int q15)]) (st1 := []) (σ1 := σ) rfl h18 ?_
                refine go_e (L1 := [some (.ref 60), none, none, none]) rfl rfl ?_
                exact fX7_behindSum_J155_ok   _  _ hf
              · rw [if_neg h18] at hf
                refine go_if (t := 155) (f := 149) (L1 := [some (.ref 60), some (.int x1), some (.int z13), some (.int q15)]) (st1 := []) (σ1 := σ) rfl h18 ?_
                refine go_n 1 (f := (150, [some (.ref 60), some (.int x1), some (.int z13), some (.int q15)], [.int x1], σ)) rfl ?_
                by_cases h63 : x1 ≠ 0
                · rw [if_pos h63] at hf
                  refine go_it (t := 155) (f := 153) (L1 := [some (.ref 60), some (.int x1), some (.int z13), some (.int q15)]) (st1 := []) (σ1 := σ) rfl h63 ?_
                  refine go_e (L1 := [some (.ref 60), none, none, none]) rfl rfl ?_
                  exact fX7_behindSum_J155_ok   _  _ hf
                · rw [if_neg h63] at hf
                  refine go_if (t := 155) (f := 153) (L1 := [some (.ref 60), some (.int x1), some (.int z13), some (.int q15)]) (st1 := []) (σ1 := σ) rfl h63 ?_
                  refine go_n 1 (f := (154, [some (.ref 60), some (.int x1), some (.int z13), some (.int q15)], [.int 4], σ)) rfl ?_
                  cases hf
                  exact go_r rfl
            · rw [if_neg h17] at hf
              refine go_if (t := 144) (f := 94) (L1 := [some (.ref 60), some (.int x1), some (.int z13), some (.int q15)]) (st1 := []) (σ1 := σ) rfl h17 ?_
              refine go_n 3 (f := (98, [some (.ref 60), some (.int x1), some (.int z13), some (.int q15)], [.int 93, .ref 60, .ref 60], σ)) rfl ?_
              obtain ⟨q64, h65, hf⟩ := bnd hf
              refine go_c (mid := 12094) (args := [.ref 60, .int 93]) (pc := 101) (L := [some (.ref 60), some (.int x1), some (.int z13), some (.int q15)]) (st := [.ref 60]) (σ := σ) rfl ((fX7_isSign_ok _ _ q64 h65).deep (Nat.le_of_ble_eq_true rfl)) ?_
              obtain ⟨q66, h67, hf⟩ := bnd hf
              refine go_c (mid := 12086) (args := [.ref 60, .int q64]) (pc := 104) (L := [some (.ref 60), some (.int x1), some (.int z13), some (.int q15)]) (st := []) (σ := σ) rfl ((fX7_must_ok _ _ q66 h67).deep (Nat.le_of_ble_eq_true rfl)) ?_
              refine go_n 2 (f := (108, [some (.ref 60), some (.int x1), some (.int z13), some (.int q15)], [.int (gi q66 60 20)], q66)) rfl ?_
              by_cases h68 : (gi q66 60 20) ≠ 0
              · rw [if_pos h68] at hf
                refine go_it (t := 142) (f := 111) (L1 := [some (.ref 60), some (.int x1), some (.int z13), some (.int q15)]) (st1 := []) (σ1 := q66) rfl h68 ?_
                refine go_e (L1 := [none, none, none, none]) rfl rfl ?_
                refine go_n 1 (f := (143, [none, none, none, none], [.int 3], q66)) rfl ?_
                cases hf
                exact go_r rfl
              · rw [if_neg h68] at hf
                refine go_if (t := 142) (f := 111) (L1 := [some (.ref 60), some (.int x1), some (.int z13), some (.int q15)]) (st1 := []) (σ1 := q66) rfl h68 ?_
                refine go_n 2 (f := (113, [some (.ref 60), some (.int x1), some (.int z13), some (.int q15)], [.int 5, .ref 60], q66)) rfl ?_
                obtain ⟨q69, h70, hf⟩ := bnd hf
                refine go_c (mid := 12099) (args := [.ref 60, .int 5]) (pc := 116) (L := [some (.ref 60), some (.int x1), some (.int z13), some (.int q15)]) (st := []) (σ := q66) rfl ((fX7_settle_ok _ _ q69 h70).deep (Nat.le_of_ble_eq_true rfl)) ?_
                refine go_n 10 (f := (132, [some (.ref 60), some (.int x1), some (.int z13), some (.int q15)], [.int 1, .int (gi q69 60 30), .ref 60], (wi q69 60 29 ((gi q69 60 29) - 1)))) rfl ?_
                refine go_n 4 (f := (139, [some (.ref 60), some (.int x1), some (.int z13), some (.int q15)], [.int 7, .ref 60], (wi (wi q69 60 29 ((gi q69 60 29) - 1)) 60 30 ((gi q69 60 30) - 1)))) rfl ?_
                obtain ⟨q71, h72, hf⟩ := bnd hf
                refine go_c (mid := 12099) (args := [.ref 60, .int 7]) (pc := 142) (L := [some (.ref 60), some (.int x1), some (.int z13), some (.int q15)]) (st := []) (σ := (wi (wi q69 60 29 ((gi q69 60 29) - 1)) 60 30 ((gi q69 60 30) - 1))) rfl ((fX7_settle_ok _ _ q71 h72).deep (Nat.le_of_ble_eq_true rfl)) ?_
                refine go_e (L1 := [none, none, none, none]) rfl rfl ?_
                refine go_n 1 (f := (143, [none, none, none, none], [.int 3], q71)) rfl ?_
                cases hf
                exact go_r rfl
          · rw [if_neg h14] at hf
            refine go_if (t := 83) (f := 63) (L1 := [some (.ref 60), some (.int x1), some (.int z13), none]) (st1 := []) (σ1 := σ) rfl h14 ?_
            refine go_n 2 (f := (65, [some (.ref 60), some (.int x1), some (.int z13), none], [.int z13, .ref 60], σ)) rfl ?_
            obtain ⟨q73, h74, hf⟩ := bnd hf
            refine go_c (mid := 12100) (args := [.int z13]) (pc := 68) (L := [some (.ref 60), some (.int x1), some (.int z13), none]) (st := [.ref 60]) (σ := σ) rfl ((fX7_binds_ok _ _ q73 h74).deep (Nat.le_of_ble_eq_true rfl)) ?_
            obtain ⟨q75, h76, hf⟩ := bnd hf
            refine go_c (mid := 12099) (args := [.ref 60, .int q73]) (pc := 71) (L := [some (.ref 60), some (.int x1), some (.int z13), none]) (st := []) (σ := σ) rfl ((fX7_settle_ok _ _ q75 h76).deep (Nat.le_of_ble_eq_true rfl)) ?_
            refine go_n 3 (f := (74, [some (.ref 60), some (.int x1), some (.int z13), none], [.int 0, .int z13, .ref 60], q75)) rfl ?_
            obtain ⟨q77, h78, hf⟩ := bnd hf
            refine go_c (mid := 12093) (args := [.ref 60, .int z13, .int 0]) (pc := 77) (L := [some (.ref 60), some (.int x1), some (.int z13), none]) (st := []) (σ := q75) rfl ((fX7_push_ok _ _ _ q77 h78).deep (Nat.le_of_ble_eq_true rfl)) ?_
            refine go_n 1 (f := (78, [some (.ref 60), some (.int x1), some (.int z13), none], [.ref 60], q77)) rfl ?_
            obtain ⟨q79, h80, hf⟩ := bnd hf
            refine go_c (mid := 12080) (args := [.ref 60]) (pc := 81) (L := [some (.ref 60), some (.int x1), some (.int z13), none]) (st := []) (σ := q77) rfl ((fX7_next_ok _ q79 h80).deep (Nat.le_of_ble_eq_true rfl)) ?_
            refine go_n 1 (f := (82, [some (.ref 60), some (.int x1), some (.int z13), none], [.int 1], q79)) rfl ?_
            cases hf
            exact go_r rfl
        · by_cases h12 : q10 = 0
          · refine go_it (t := 56) (f := 51) (L1 := [some (.ref 60), some (.int x1), none, none]) (st1 := []) (σ1 := σ) rfl h12 ?_
            refine go_n 1 (f := (57, [some (.ref 60), some (.int x1), none, none], [.int (-1)], σ)) rfl ?_
            refine go_e (L1 := [some (.ref 60), some (.int x1), none, none]) rfl rfl ?_
            simp only [if_pos h12] at hJ81
            first | exact hJ81 | (simp only [if_pos h12]; exact hJ81)
          · refine go_if (t := 56) (f := 51) (L1 := [some (.ref 60), some (.int x1), none, none]) (st1 := []) (σ1 := σ) rfl h12 ?_
            refine go_n 2 (f := (57, [some (.ref 60), some (.int x1), none, none], [.int 11], σ)) rfl ?_
            refine go_e (L1 := [some (.ref 60), some (.int x1), none, none]) rfl rfl ?_
            simp only [if_neg h12] at hJ81
            first | exact hJ81 | (simp only [if_neg h12]; exact hJ81)
      · rw [if_neg h9] at hf
        refine go_if (t := 42) (f := 37) (L1 := [some (.ref 60), some (.int x1), none, none]) (st1 := []) (σ1 := σ) rfl h9 ?_
        refine go_n 2 (f := (57, [some (.ref 60), some (.int x1), none, none], [.int 10], σ)) rfl ?_
        exact fX7_behindSum_J57_ok _ _  _  _ hf
    · rw [if_neg h6] at hf
      refine go_if (t := 28) (f := 23) (L1 := [some (.ref 60), some (.int x1), none, none]) (st1 := []) (σ1 := σ) rfl h6 ?_
      refine go_n 2 (f := (57, [some (.ref 60), some (.int x1), none, none], [.int 9], σ)) rfl ?_
      exact fX7_behindSum_J57_ok _ _  _  _ hf
  · rw [if_neg h3] at hf
    refine go_if (t := 14) (f := 9) (L1 := [some (.ref 60), some (.int x1), none, none]) (st1 := []) (σ1 := σ) rfl h3 ?_
    refine go_n 2 (f := (57, [some (.ref 60), some (.int x1), none, none], [.int 8], σ)) rfl ?_
    exact fX7_behindSum_J57_ok _ _  _  _ hf
/-! OldWeatherModel.behindTest()I -/
def fX7_behindTest_J22 (x1 : Int32)  (σ : Sg) : Option (Int32 × Sg) :=
  ((fun (z5 : Int32) => (fX7_settle z5 σ).bind fun q6 => ((fun (z9 : Int32) => (fX7_push z9 (gi q6 60 23) q6).bind fun q10 => (fX7_emit z9 0 q10).bind fun q14 => (fX7_next  q14).bind fun q16 => some (0, q16)) ((if x1 = 0 then 19 else 18) : Int32))) ((if x1 = 0 then 1 else 2) : Int32))
set_option maxHeartbeats 1500000 in
theorem fX7_behindTest_J22_ok (x1 : Int32)  (σ : Sg)  (r : (Int32 × Sg)) (hf : fX7_behindTest_J22 x1  σ = some r) : Go true 3 iX7_behindTest (22, [some (.ref 60), some (.int x1)], [], σ) (.inl (some (.int (r).1)), (r).2) := by
  unfold fX7_behindTest_J22 at hf
  refine go_n 2 (f := (24, [some (.ref 60), some (.int x1)], [.int x1, .ref 60], σ)) rfl ?_
  refine go_m (f := (32, [some (.ref 60), some (.int x1)], [.int ((if x1 = 0 then 1 else 2) : Int32), .ref 60], σ)) ?_ (fun hJ20 => ?_)
  · generalize hz5 : ((if x1 = 0 then 1 else 2) : Int32) = z5 at hf ⊢
    try dsimp only at hf
    obtain ⟨q6, h7, hf⟩ := bnd hf
    refine go_c (mid := 12099) (args := [.ref 60, .int z5]) (pc := 35) (L := [some (.ref 60), some (.int x1)]) (st := []) (σ := σ) rfl ((fX7_settle_ok _ _ q6 h7).deep (Nat.le_of_ble_eq_true rfl)) ?_
    refine go_n 2 (f := (37, [some (.ref 60), some (.int x1)], [.int x1, .ref 60], q6)) rfl ?_
    refine go_m (f := (47, [some (.ref 60), some (.int x1)], [.int ((if x1 = 0 then 19 else 18) : Int32), .ref 60], q6)) ?_ (fun hJ19 => ?_)
    · generalize hz9 : ((if x1 = 0 then 19 else 18) : Int32) = z9 at hf ⊢
      try dsimp only at hf
      refine go_n 2 (f := (51, [some (.ref 60), some (.int x1)], [.int (gi q6 60 23), .int z9, .ref 60], q6)) rfl ?_
      obtain ⟨q10, h11, hf⟩ := bnd hf
      refine go_c (mid := 12093) (args := [.ref 60, .int z9, .int (gi q6 60 23)]) (pc := 54) (L := [some (.ref 60), some (.int x1)]) (st := []) (σ := q6) rfl ((fX7_push_ok _ _ _ q10 h11).deep (Nat.le_of_ble_eq_true rfl)) ?_
      refine go_n 2 (f := (56, [some (.ref 60), some (.int x1)], [.int x1, .ref 60], q10)) rfl ?_
      refine go_m (f := (66, [some (.ref 60), none], [.int ((if x1 = 0 then 19 else 18) : Int32), .ref 60], q10)) ?_ (fun hJ18 => ?_)
      · rw [hz9]
        refine go_n 1 (f := (67, [some (.ref 60), none], [.int 0, .int z9, .ref 60], q10)) rfl ?_
        obtain ⟨q14, h15, hf⟩ := bnd hf
        refine go_c (mid := 12098) (args := [.ref 60, .int z9, .int 0]) (pc := 70) (L := [some (.ref 60), none]) (st := []) (σ := q10) rfl ((fX7_emit_ok _ _ _ q14 h15).deep (Nat.le_of_ble_eq_true rfl)) ?_
        refine go_n 1 (f := (71, [some (.ref 60), none], [.ref 60], q14)) rfl ?_
        obtain ⟨q16, h17, hf⟩ := bnd hf
        refine go_c (mid := 12080) (args := [.ref 60]) (pc := 74) (L := [some (.ref 60), none]) (st := []) (σ := q14) rfl ((fX7_next_ok _ q16 h17).deep (Nat.le_of_ble_eq_true rfl)) ?_
        refine go_n 1 (f := (75, [some (.ref 60), none], [.int 0], q16)) rfl ?_
        cases hf
        exact go_r rfl
      · by_cases h12 : x1 = 0
        · refine go_it (t := 64) (f := 59) (L1 := [some (.ref 60), some (.int x1)]) (st1 := [.ref 60]) (σ1 := q10) rfl h12 ?_
          refine go_n 1 (f := (66, [some (.ref 60), some (.int x1)], [.int 19, .ref 60], q10)) rfl ?_
          refine go_e (L1 := [some (.ref 60), none]) rfl rfl ?_
          simp only [if_pos h12] at hJ18
          first | exact hJ18 | (simp only [if_pos h12]; exact hJ18)
        · refine go_if (t := 64) (f := 59) (L1 := [some (.ref 60), some (.int x1)]) (st1 := [.ref 60]) (σ1 := q10) rfl h12 ?_
          refine go_n 2 (f := (66, [some (.ref 60), some (.int x1)], [.int 18, .ref 60], q10)) rfl ?_
          refine go_e (L1 := [some (.ref 60), none]) rfl rfl ?_
          simp only [if_neg h12] at hJ18
          first | exact hJ18 | (simp only [if_neg h12]; exact hJ18)
    · by_cases h8 : x1 = 0
      · refine go_it (t := 45) (f := 40) (L1 := [some (.ref 60), some (.int x1)]) (st1 := [.ref 60]) (σ1 := q6) rfl h8 ?_
        refine go_n 1 (f := (47, [some (.ref 60), some (.int x1)], [.int 19, .ref 60], q6)) rfl ?_
        simp only [if_pos h8] at hJ19
        first | exact hJ19 | (simp only [if_pos h8]; exact hJ19)
      · refine go_if (t := 45) (f := 40) (L1 := [some (.ref 60), some (.int x1)]) (st1 := [.ref 60]) (σ1 := q6) rfl h8 ?_
        refine go_n 2 (f := (47, [some (.ref 60), some (.int x1)], [.int 18, .ref 60], q6)) rfl ?_
        simp only [if_neg h8] at hJ19
        first | exact hJ19 | (simp only [if_neg h8]; exact hJ19)
  · by_cases h4 : x1 = 0
    · refine go_it (t := 31) (f := 27) (L1 := [some (.ref 60), some (.int x1)]) (st1 := [.ref 60]) (σ1 := σ) rfl h4 ?_
      refine go_n 1 (f := (32, [some (.ref 60), some (.int x1)], [.int 1, .ref 60], σ)) rfl ?_
      simp only [if_pos h4] at hJ20
      first | exact hJ20 | (simp only [if_pos h4]; exact hJ20)
    · refine go_if (t := 31) (f := 27) (L1 := [some (.ref 60), some (.int x1)]) (st1 := [.ref 60]) (σ1 := σ) rfl h4 ?_
      refine go_n 2 (f := (32, [some (.ref 60), some (.int x1)], [.int 2, .ref 60], σ)) rfl ?_
      simp only [if_neg h4] at hJ20
      first | exact hJ20 | (simp only [if_neg h4]; exact hJ20)
def fX7_behindTest  (σ : Sg) : Option (Int32 × Sg) :=
  (fX7_isWord 1476 σ).bind fun q1 => if q1 ≠ 0 then fX7_behindTest_J22 q1  σ else (fX7_isWord 498 σ).bind fun q21 => if q21 = 0 then (fX7_inner  σ).bind fun q24 => if q24 ≠ (-1) then (fX7_isSign 41 σ).bind fun q27 => (fX7_must q27 σ).bind fun q29 => if (gi q29 60 20) ≠ 0 then some (2, q29) else (fX7_settle 1 q29).bind fun q32 => some (2, (wi (wi q32 60 29 ((gi q32 60 29) - 1)) 60 30 ((gi q32 60 30) - 1))) else some (4, σ) else fX7_behindTest_J22 q1  σ
set_option maxHeartbeats 1500000 in
theorem fX7_behindTest_ok  (σ : Sg) (r : (Int32 × Sg)) (hf : fX7_behindTest  σ = some r) : Cl true 3 12104 [.ref 60] σ (.inl (some (.int (r).1)), (r).2) := by
  refine ⟨iX7_behindTest, rfl, Nat.le_of_ble_eq_true rfl, Nat.le_of_ble_eq_true rfl, ?_⟩
  show Go true 3 iX7_behindTest (0, [some (.ref 60), none], [], σ) (.inl (some (.int (r).1)), (r).2)
  unfold fX7_behindTest at hf
  refine go_n 2 (f := (4, [some (.ref 60), none], [.long 1476, .ref 60], σ)) rfl ?_
  obtain ⟨q1, h2, hf⟩ := bnd hf
  refine go_c (mid := 12085) (args := [.ref 60, .long 1476]) (pc := 7) (L := [some (.ref 60), none]) (st := []) (σ := σ) rfl ((fX7_isWord_ok _ _ q1 h2).deep (Nat.le_of_ble_eq_true rfl)) ?_
  refine go_n 2 (f := (9, [some (.ref 60), some (.int q1)], [.int q1], σ)) rfl ?_
  by_cases h3 : q1 ≠ 0
  · rw [if_pos h3] at hf
    refine go_it (t := 22) (f := 12) (L1 := [some (.ref 60), some (.int q1)]) (st1 := []) (σ1 := σ) rfl h3 ?_
    exact fX7_behindTest_J22_ok _  _  _ hf
  · rw [if_neg h3] at hf
    refine go_if (t := 22) (f := 12) (L1 := [some (.ref 60), some (.int q1)]) (st1 := []) (σ1 := σ) rfl h3 ?_
    refine go_n 2 (f := (16, [some (.ref 60), some (.int q1)], [.long 498, .ref 60], σ)) rfl ?_
    obtain ⟨q21, h22, hf⟩ := bnd hf
    refine go_c (mid := 12085) (args := [.ref 60, .long 498]) (pc := 19) (L := [some (.ref 60), some (.int q1)]) (st := []) (σ := σ) rfl ((fX7_isWord_ok _ _ q21 h22).deep (Nat.le_of_ble_eq_true rfl)) ?_
    by_cases h23 : q21 = 0
    · rw [if_pos h23] at hf
      refine go_it (t := 76) (f := 22) (L1 := [some (.ref 60), some (.int q1)]) (st1 := []) (σ1 := σ) rfl h23 ?_
      refine go_n 1 (f := (77, [some (.ref 60), some (.int q1)], [.ref 60], σ)) rfl ?_
      obtain ⟨q24, h25, hf⟩ := bnd hf
      refine go_c (mid := 12102) (args := [.ref 60]) (pc := 80) (L := [some (.ref 60), some (.int q1)]) (st := []) (σ := σ) rfl ((fX7_inner_ok _ q24 h25).deep (Nat.le_of_ble_eq_true rfl)) ?_
      refine go_n 1 (f := (81, [some (.ref 60), some (.int q1)], [.int (-1), .int q24], σ)) rfl ?_
      by_cases h26 : q24 ≠ (-1)
      · rw [if_pos h26] at hf
        refine go_it (t := 86) (f := 84) (L1 := [some (.ref 60), some (.int q1)]) (st1 := []) (σ1 := σ) rfl h26 ?_
        refine go_n 3 (f := (90, [some (.ref 60), some (.int q1)], [.int 41, .ref 60, .ref 60], σ)) rfl ?_
        obtain ⟨q27, h28, hf⟩ := bnd hf
        refine go_c (mid := 12094) (args := [.ref 60, .int 41]) (pc := 93) (L := [some (.ref 60), some (.int q1)]) (st := [.ref 60]) (σ := σ) rfl ((fX7_isSign_ok _ _ q27 h28).deep (Nat.le_of_ble_eq_true rfl)) ?_
        obtain ⟨q29, h30, hf⟩ := bnd hf
        refine go_c (mid := 12086) (args := [.ref 60, .int q27]) (pc := 96) (L := [some (.ref 60), some (.int q1)]) (st := []) (σ := σ) rfl ((fX7_must_ok _ _ q29 h30).deep (Nat.le_of_ble_eq_true rfl)) ?_
        refine go_n 2 (f := (100, [some (.ref 60), some (.int q1)], [.int (gi q29 60 20)], q29)) rfl ?_
        by_cases h31 : (gi q29 60 20) ≠ 0
        · rw [if_pos h31] at hf
          refine go_it (t := 128) (f := 103) (L1 := [some (.ref 60), some (.int q1)]) (st1 := []) (σ1 := q29) rfl h31 ?_
          refine go_e (L1 := [none, none]) rfl rfl ?_
          refine go_n 1 (f := (129, [none, none], [.int 2], q29)) rfl ?_
          cases hf
          exact go_r rfl
        · rw [if_neg h31] at hf
          refine go_if (t := 128) (f := 103) (L1 := [some (.ref 60), some (.int q1)]) (st1 := []) (σ1 := q29) rfl h31 ?_
          refine go_n 2 (f := (105, [some (.ref 60), some (.int q1)], [.int 1, .ref 60], q29)) rfl ?_
          obtain ⟨q32, h33, hf⟩ := bnd hf
          refine go_c (mid := 12099) (args := [.ref 60, .int 1]) (pc := 108) (L := [some (.ref 60), some (.int q1)]) (st := []) (σ := q29) rfl ((fX7_settle_ok _ _ q32 h33).deep (Nat.le_of_ble_eq_true rfl)) ?_
          refine go_n 10 (f := (124, [some (.ref 60), some (.int q1)], [.int 1, .int (gi q32 60 30), .ref 60], (wi q32 60 29 ((gi q32 60 29) - 1)))) rfl ?_
          refine go_n 2 (f := (128, [some (.ref 60), some (.int q1)], [], (wi (wi q32 60 29 ((gi q32 60 29) - 1)) 60 30 ((gi q32 60 30) - 1)))) rfl ?_
          refine go_e (L1 := [none, none]) rfl rfl ?_
          refine go_n 1 (f := (129, [none, none], [.int 2], (wi (wi q32 60 29 ((gi q32 60 29) - 1)) 60 30 ((gi q32 60 30) - 1)))) rfl ?_
          cases hf
          exact go_r rfl
      · rw [if_neg h26] at hf
        refine go_if (t := 86) (f := 84) (L1 := [some (.ref 60), some (.int q1)]) (st1 := []) (σ1 := σ) rfl h26 ?_
        refine go_n 1 (f := (85, [some (.ref 60), some (.int q1)], [.int 4], σ)) rfl ?_
        cases hf
        exact go_r rfl
    · rw [if_neg h23] at hf
      refine go_if (t := 76) (f := 22) (L1 := [some (.ref 60), some (.int q1)]) (st1 := []) (σ1 := σ) rfl h23 ?_
      exact fX7_behindTest_J22_ok _  _  _ hf
/-! OldWeatherModel.findOnes()V -/
def fX7_findOnes_J105 (x1 : Int32) (x2 : Int32) (x3 : Int32) (x4 : Int32) (rec31 : (Int32 × Sg) → Option Sg) (rec39 : (Int32 × Int32 × Sg) → Option Sg) (rec52 : (Int32 × Int32 × Sg) → Option Sg) (σ : Sg) : Option Sg :=
  rec52 (x2, (x4 + 1), σ)
set_option maxHeartbeats 1500000 in
theorem fX7_findOnes_J105_ok (x1 : Int32) (x2 : Int32) (x3 : Int32) (x4 : Int32) (rec31 : (Int32 × Sg) → Option Sg) (rec39 : (Int32 × Int32 × Sg) → Option Sg) (rec52 : (Int32 × Int32 × Sg) → Option Sg) (σ : Sg) (hrec31 : ∀ (y2 : Int32) (τ : Sg) (r : Sg), rec31 (y2, τ) = some r → Go true 3 iX7_findOnes (31, [some (.ref 60), some (.int x1), some (.int y2), none, none], [], τ) (.inl none, r)) (hrec39 : ∀ (y2 : Int32) (y3 : Int32) (τ : Sg) (r : Sg), rec39 (y2, y3, τ) = some r → Go true 3 iX7_findOnes (39, [some (.ref 60), some (.int x1), some (.int y2), some (.int y3), none], [], τ) (.inl none, r)) (hrec52 : ∀ (y2 : Int32) (y4 : Int32) (τ : Sg) (r : Sg), rec52 (y2, y4, τ) = some r → Go true 3 iX7_findOnes (52, [some (.ref 60), some (.int x1), some (.int y2), some (.int x3), some (.int y4)], [], τ) (.inl none, r)) (r : Sg) (hf : fX7_findOnes_J105 x1 x2 x3 x4 rec31 rec39 rec52 σ = some r) : Go true 3 iX7_findOnes (105, [some (.ref 60), some (.int x1), some (.int x2), some (.int x3), some (.int x4)], [], σ) (.inl none, r) := by
  unfold fX7_findOnes_J105 at hf
  refine go_n 2 (f := (52, [some (.ref 60), some (.int x1), some (.int x2), some (.int x3), some (.int (x4 + 1))], [], σ)) rfl ?_
  exact hrec52 _ _ _ _ hf
def fX7_findOnes_L52 (x1 : Int32) (x3 : Int32) (rec31 : (Int32 × Sg) → Option Sg) (rec39 : (Int32 × Int32 × Sg) → Option Sg) (rec52 : (Int32 × Int32 × Sg) → Option Sg) (s : Int32 × Int32 × Sg) : Option Sg :=
  match s with
  | (x2, x4, σ) => if (gi σ 61 1) ≤ x4 then rec39 (x2, (x3 + 1), σ) else if inb x4 16 then if inb x3 16 then if (gi σ 80 x4.toNatClampNeg) ≤ (gi σ 80 x3.toNatClampNeg) then fX7_findOnes_J105 x1 x2 x3 x4 rec31 rec39 rec52 σ else (fX7_shared x3 x4 σ).bind fun q10 => if q10 < x1 then fX7_findOnes_J105 x1 x2 x3 x4 rec31 rec39 rec52 σ else if inb x3 16 then if inb x4 16 then fX7_findOnes_J105 x1 1 x3 x4 rec31 rec39 rec52 (wi σ 80 x4.toNatClampNeg (gi σ 80 x3.toNatClampNeg)) else none else none else none else none
set_option maxHeartbeats 1500000 in
theorem fX7_findOnes_L52_ok (x1 : Int32) (x3 : Int32) (rec31 : (Int32 × Sg) → Option Sg) (rec39 : (Int32 × Int32 × Sg) → Option Sg) (hrec31 : ∀ (y2 : Int32) (τ : Sg) (r : Sg), rec31 (y2, τ) = some r → Go true 3 iX7_findOnes (31, [some (.ref 60), some (.int x1), some (.int y2), none, none], [], τ) (.inl none, r)) (hrec39 : ∀ (y2 : Int32) (y3 : Int32) (τ : Sg) (r : Sg), rec39 (y2, y3, τ) = some r → Go true 3 iX7_findOnes (39, [some (.ref 60), some (.int x1), some (.int y2), some (.int y3), none], [], τ) (.inl none, r)) : ∀ (n : Nat) (x2 : Int32) (x4 : Int32) (σ : Sg) (r : Sg), lp (fX7_findOnes_L52 x1 x3 rec31 rec39) n (x2, x4, σ) = some r → Go true 3 iX7_findOnes (52, [some (.ref 60), some (.int x1), some (.int x2), some (.int x3), some (.int x4)], [], σ) (.inl none, r) := by
  intro n
  induction n with
  | zero => intro x2 x4 σ r hf; cases hf
  | succ n ih =>
    intro x2 x4 σ r hf
    have hf : fX7_findOnes_L52 x1 x3 rec31 rec39 (lp (fX7_findOnes_L52 x1 x3 rec31 rec39) n) (x2, x4, σ) = some r := hf
    have hrec52 := ih
    generalize lp (fX7_findOnes_L52 x1 x3 rec31 rec39) n = rec52 at hf hrec52
    unfold fX7_findOnes_L52 at hf
    dsimp only at hf
    refine go_n 5 (f := (60, [some (.ref 60), some (.int x1), some (.int x2), some (.int x3), some (.int x4)], [.int (gi σ 61 1), .int x4], σ)) rfl ?_
    by_cases h6 : (gi σ 61 1) ≤ x4
    · rw [if_pos h6] at hf
      refine go_it (t := 111) (f := 63) (L1 := [some (.ref 60), some (.int x1), some (.int x2), some (.int x3), some (.int x4)]) (st1 := []) (σ1 := σ) rfl h6 ?_
      refine go_n 2 (f := (39, [some (.ref 60), some (.int x1), some (.int x2), some (.int (x3 + 1)), some (.int x4)], [], σ)) rfl ?_
      refine go_e (L1 := [some (.ref 60), some (.int x1), some (.int x2), some (.int (x3 + 1)), none]) rfl rfl ?_
      exact hrec39 _ _ _ _ hf
    · rw [if_neg h6] at hf
      refine go_if (t := 111) (f := 63) (L1 := [some (.ref 60), some (.int x1), some (.int x2), some (.int x3), some (.int x4)]) (st1 := []) (σ1 := σ) rfl h6 ?_
      refine go_n 3 (f := (69, [some (.ref 60), some (.int x1), some (.int x2), some (.int x3), some (.int x4)], [.int x4, .ref 80], σ)) rfl ?_
      obtain ⟨h7, hf⟩ := grd hf
      refine go_iald rfl rfl rfl h7 ?_
      refine go_n 3 (f := (75, [some (.ref 60), some (.int x1), some (.int x2), some (.int x3), some (.int x4)], [.int x3, .ref 80, .int (gi σ 80 x4.toNatClampNeg)], σ)) rfl ?_
      obtain ⟨h8, hf⟩ := grd hf
      refine go_iald rfl rfl rfl h8 ?_
      by_cases h9 : (gi σ 80 x4.toNatClampNeg) ≤ (gi σ 80 x3.toNatClampNeg)
      · rw [if_pos h9] at hf
        refine go_it (t := 105) (f := 79) (L1 := [some (.ref 60), some (.int x1), some (.int x2), some (.int x3), some (.int x4)]) (st1 := []) (σ1 := σ) rfl h9 ?_
        exact fX7_findOnes_J105_ok _ _ _ _ _ _ _ _ hrec31 hrec39 hrec52 _ hf
      · rw [if_neg h9] at hf
        refine go_if (t := 105) (f := 79) (L1 := [some (.ref 60), some (.int x1), some (.int x2), some (.int x3), some (.int x4)]) (st1 := []) (σ1 := σ) rfl h9 ?_
        refine go_n 3 (f := (83, [some (.ref 60), some (.int x1), some (.int x2), some (.int x3), some (.int x4)], [.int x4, .int x3, .ref 60], σ)) rfl ?_
        obtain ⟨q10, h11, hf⟩ := bnd hf
        refine go_c (mid := 12112) (args := [.ref 60, .int x3, .int x4]) (pc := 86) (L := [some (.ref 60), some (.int x1), some (.int x2), some (.int x3), some (.int x4)]) (st := []) (σ := σ) rfl ((fX7_shared_ok _ _ _ q10 h11).deep (Nat.le_of_ble_eq_true rfl)) ?_
        refine go_n 1 (f := (87, [some (.ref 60), some (.int x1), some (.int x2), some (.int x3), some (.int x4)], [.int x1, .int q10], σ)) rfl ?_
        by_cases h12 : q10 < x1
        · rw [if_pos h12] at hf
          refine go_it (t := 105) (f := 90) (L1 := [some (.ref 60), some (.int x1), some (.int x2), some (.int x3), some (.int x4)]) (st1 := []) (σ1 := σ) rfl h12 ?_
          exact fX7_findOnes_J105_ok _ _ _ _ _ _ _ _ hrec31 hrec39 hrec52 _ hf
        · rw [if_neg h12] at hf
          refine go_if (t := 105) (f := 90) (L1 := [some (.ref 60), some (.int x1), some (.int x2), some (.int x3), some (.int x4)]) (st1 := []) (σ1 := σ) rfl h12 ?_
          refine go_n 6 (f := (101, [some (.ref 60), some (.int x1), some (.int x2), some (.int x3), some (.int x4)], [.int x3, .ref 80, .int x4, .ref 80], σ)) rfl ?_
          obtain ⟨h13, hf⟩ := grd hf
          refine go_iald rfl rfl rfl h13 ?_
          obtain ⟨h14, hf⟩ := grd hf
          refine go_iast rfl rfl rfl h14 ?_
          refine go_n 2 (f := (105, [some (.ref 60), some (.int x1), some (.int 1), some (.int x3), some (.int x4)], [], (wi σ 80 x4.toNatClampNeg (gi σ 80 x3.toNatClampNeg)))) rfl ?_
          exact fX7_findOnes_J105_ok _ _ _ _ _ _ _ _ hrec31 hrec39 hrec52 _ hf
def fX7_findOnes_L39 (x1 : Int32) (rec31 : (Int32 × Sg) → Option Sg) (rec39 : (Int32 × Int32 × Sg) → Option Sg) (s : Int32 × Int32 × Sg) : Option Sg :=
  match s with
  | (x2, x3, σ) => if (gi σ 61 1) ≤ x3 then rec31 (x2, σ) else lp (fX7_findOnes_L52 x1 x3 rec31 rec39) N0 (x2, 0, σ)
set_option maxHeartbeats 1500000 in
theorem fX7_findOnes_L39_ok (x1 : Int32) (rec31 : (Int32 × Sg) → Option Sg) (hrec31 : ∀ (y2 : Int32) (τ : Sg) (r : Sg), rec31 (y2, τ) = some r → Go true 3 iX7_findOnes (31, [some (.ref 60), some (.int x1), some (.int y2), none, none], [], τ) (.inl none, r)) : ∀ (n : Nat) (x2 : Int32) (x3 : Int32) (σ : Sg) (r : Sg), lp (fX7_findOnes_L39 x1 rec31) n (x2, x3, σ) = some r → Go true 3 iX7_findOnes (39, [some (.ref 60), some (.int x1), some (.int x2), some (.int x3), none], [], σ) (.inl none, r) := by
  intro n
  induction n with
  | zero => intro x2 x3 σ r hf; cases hf
  | succ n ih =>
    intro x2 x3 σ r hf
    have hf : fX7_findOnes_L39 x1 rec31 (lp (fX7_findOnes_L39 x1 rec31) n) (x2, x3, σ) = some r := hf
    have hrec39 := ih
    generalize lp (fX7_findOnes_L39 x1 rec31) n = rec39 at hf hrec39
    unfold fX7_findOnes_L39 at hf
    dsimp only at hf
    refine go_n 5 (f := (46, [some (.ref 60), some (.int x1), some (.int x2), some (.int x3), none], [.int (gi σ 61 1), .int x3], σ)) rfl ?_
    by_cases h5 : (gi σ 61 1) ≤ x3
    · rw [if_pos h5] at hf
      refine go_it (t := 117) (f := 49) (L1 := [some (.ref 60), some (.int x1), some (.int x2), some (.int x3), none]) (st1 := []) (σ1 := σ) rfl h5 ?_
      refine go_n 1 (f := (31, [some (.ref 60), some (.int x1), some (.int x2), some (.int x3), none], [], σ)) rfl ?_
      refine go_e (L1 := [some (.ref 60), some (.int x1), some (.int x2), none, none]) rfl rfl ?_
      exact hrec31 _ _ _ hf
    · rw [if_neg h5] at hf
      refine go_if (t := 117) (f := 49) (L1 := [some (.ref 60), some (.int x1), some (.int x2), some (.int x3), none]) (st1 := []) (σ1 := σ) rfl h5 ?_
      refine go_n 2 (f := (52, [some (.ref 60), some (.int x1), some (.int x2), some (.int x3), some (.int 0)], [], σ)) rfl ?_
      exact fX7_findOnes_L52_ok _ _ _ _ hrec31 hrec39 N0 _ _ _ _ hf
def fX7_findOnes_L31 (x1 : Int32)  (rec31 : (Int32 × Sg) → Option Sg) (s : Int32 × Sg) : Option Sg :=
  match s with
  | (x2, σ) => if x2 = 0 then some σ else lp (fX7_findOnes_L39 x1 rec31) N0 (0, 0, σ)
set_option maxHeartbeats 1500000 in
theorem fX7_findOnes_L31_ok (x1 : Int32)   : ∀ (n : Nat) (x2 : Int32) (σ : Sg) (r : Sg), lp (fX7_findOnes_L31 x1 ) n (x2, σ) = some r → Go true 3 iX7_findOnes (31, [some (.ref 60), some (.int x1), some (.int x2), none, none], [], σ) (.inl none, r) := by
  intro n
  induction n with
  | zero => intro x2 σ r hf; cases hf
  | succ n ih =>
    intro x2 σ r hf
    have hf : fX7_findOnes_L31 x1  (lp (fX7_findOnes_L31 x1 ) n) (x2, σ) = some r := hf
    have hrec31 := ih
    generalize lp (fX7_findOnes_L31 x1 ) n = rec31 at hf hrec31
    unfold fX7_findOnes_L31 at hf
    dsimp only at hf
    refine go_n 1 (f := (32, [some (.ref 60), some (.int x1), some (.int x2), none, none], [.int x2], σ)) rfl ?_
    by_cases h4 : x2 = 0
    · rw [if_pos h4] at hf
      refine go_it (t := 120) (f := 35) (L1 := [some (.ref 60), some (.int x1), some (.int x2), none, none]) (st1 := []) (σ1 := σ) rfl h4 ?_
      cases hf
      exact go_r rfl
    · rw [if_neg h4] at hf
      refine go_if (t := 120) (f := 35) (L1 := [some (.ref 60), some (.int x1), some (.int x2), none, none]) (st1 := []) (σ1 := σ) rfl h4 ?_
      refine go_n 4 (f := (39, [some (.ref 60), some (.int x1), some (.int 0), some (.int 0), none], [], σ)) rfl ?_
      exact fX7_findOnes_L39_ok _ _ hrec31 N0 _ _ _ _ hf
def fX7_findOnes_L10 (x1 : Int32)  (rec10 : (Int32 × Sg) → Option Sg) (s : Int32 × Sg) : Option Sg :=
  match s with
  | (x2, σ) => if 16 ≤ x2 then lp (fX7_findOnes_L31 x1 ) N0 (1, σ) else if inb x2 16 then rec10 ((x2 + 1), (wi σ 80 x2.toNatClampNeg x2)) else none
set_option maxHeartbeats 1500000 in
theorem fX7_findOnes_L10_ok (x1 : Int32)   : ∀ (n : Nat) (x2 : Int32) (σ : Sg) (r : Sg), lp (fX7_findOnes_L10 x1 ) n (x2, σ) = some r → Go true 3 iX7_findOnes (10, [some (.ref 60), some (.int x1), some (.int x2), none, none], [], σ) (.inl none, r) := by
  intro n
  induction n with
  | zero => intro x2 σ r hf; cases hf
  | succ n ih =>
    intro x2 σ r hf
    have hf : fX7_findOnes_L10 x1  (lp (fX7_findOnes_L10 x1 ) n) (x2, σ) = some r := hf
    have hrec10 := ih
    generalize lp (fX7_findOnes_L10 x1 ) n = rec10 at hf hrec10
    unfold fX7_findOnes_L10 at hf
    dsimp only at hf
    refine go_n 2 (f := (13, [some (.ref 60), some (.int x1), some (.int x2), none, none], [.int 16, .int x2], σ)) rfl ?_
    by_cases h3 : 16 ≤ x2
    · rw [if_pos h3] at hf
      refine go_it (t := 29) (f := 16) (L1 := [some (.ref 60), some (.int x1), some (.int x2), none, none]) (st1 := []) (σ1 := σ) rfl h3 ?_
      refine go_n 2 (f := (31, [some (.ref 60), some (.int x1), some (.int 1), none, none], [], σ)) rfl ?_
      exact fX7_findOnes_L31_ok _   N0 _ _ _ hf
    · rw [if_neg h3] at hf
      refine go_if (t := 29) (f := 16) (L1 := [some (.ref 60), some (.int x1), some (.int x2), none, none]) (st1 := []) (σ1 := σ) rfl h3 ?_
      refine go_n 4 (f := (22, [some (.ref 60), some (.int x1), some (.int x2), none, none], [.int x2, .int x2, .ref 80], σ)) rfl ?_
      obtain ⟨h15, hf⟩ := grd hf
      refine go_iast rfl rfl rfl h15 ?_
      refine go_n 2 (f := (10, [some (.ref 60), some (.int x1), some (.int (x2 + 1)), none, none], [], (wi σ 80 x2.toNatClampNeg x2))) rfl ?_
      exact hrec10 _ _ _ hf
def fX7_findOnes  (σ : Sg) : Option Sg :=
  (fX7_lastOf 7 3 σ).bind fun q1 => lp (fX7_findOnes_L10 q1 ) N0 (0, σ)
set_option maxHeartbeats 1500000 in
theorem fX7_findOnes_ok  (σ : Sg) (r : Sg) (hf : fX7_findOnes  σ = some r) : Cl true 3 12110 [.ref 60] σ (.inl none, r) := by
  refine ⟨iX7_findOnes, rfl, Nat.le_of_ble_eq_true rfl, Nat.le_of_ble_eq_true rfl, ?_⟩
  show Go true 3 iX7_findOnes (0, [some (.ref 60), none, none, none, none], [], σ) (.inl none, r)
  unfold fX7_findOnes at hf
  refine go_n 3 (f := (4, [some (.ref 60), none, none, none, none], [.int 3, .int 7, .ref 60], σ)) rfl ?_
  obtain ⟨q1, h2, hf⟩ := bnd hf
  refine go_c (mid := 12111) (args := [.ref 60, .int 7, .int 3]) (pc := 7) (L := [some (.ref 60), none, none, none, none]) (st := []) (σ := σ) rfl ((fX7_lastOf_ok _ _ _ q1 h2).deep (Nat.le_of_ble_eq_true rfl)) ?_
  refine go_n 3 (f := (10, [some (.ref 60), some (.int q1), some (.int 0), none, none], [], σ)) rfl ?_
  exact fX7_findOnes_L10_ok _   N0 _ _ _ hf
/-! OldWeatherModel.setFor(II)V -/
def fX7_setFor_J87 (x3 : Int32) (s0 : Int32) (s1 : Int32)  (σ : Sg) : Option Sg :=
  if inb s1 8 then (fX7_placeOf x3 (wi (wi σ 74 s1.toNatClampNeg s0) 74 6 x3)).bind fun q18 => (fX7_placeAt q18).bind fun q20 => if inb (q20 + (gi σ 60 6)) 39698 then some (wi (wi (wi σ 74 s1.toNatClampNeg s0) 74 6 x3) 74 7 (gi σ 61 (q20 + (gi σ 60 6)).toNatClampNeg)) else none else none
set_option maxHeartbeats 1500000 in
theorem fX7_setFor_J87_ok (x3 : Int32) (s0 : Int32) (s1 : Int32)  (σ : Sg)  (r : Sg) (hf : fX7_setFor_J87 x3 s0 s1  σ = some r) : Go true 3 iX7_setFor (87, [some (.ref 60), none, none, some (.int x3)], [.int s0, .int s1, .ref 74], σ) (.inl none, r) := by
  unfold fX7_setFor_J87 at hf
  obtain ⟨h17, hf⟩ := grd hf
  refine go_iast rfl rfl rfl h17 ?_
  refine go_n 10 (f := (106, [some (.ref 60), none, none, some (.int x3)], [.ref 61, .int 7, .ref 74], (wi (wi σ 74 s1.toNatClampNeg s0) 74 6 x3))) rfl ?_
  refine go_n 2 (f := (108, [some (.ref 60), none, none, some (.int x3)], [.int x3, .ref 60, .ref 61, .int 7, .ref 74], (wi (wi σ 74 s1.toNatClampNeg s0) 74 6 x3))) rfl ?_
  obtain ⟨q18, h19, hf⟩ := bnd hf
  refine go_c (mid := 12120) (args := [.ref 60, .int x3]) (pc := 111) (L := [some (.ref 60), none, none, some (.int x3)]) (st := [.ref 61, .int 7, .ref 74]) (σ := (wi (wi σ 74 s1.toNatClampNeg s0) 74 6 x3)) rfl ((fX7_placeOf_ok _ _ q18 h19).deep (Nat.le_of_ble_eq_true rfl)) ?_
  obtain ⟨q20, h21, hf⟩ := bnd hf
  refine go_c (mid := 12046) (args := [.int q18]) (pc := 114) (L := [some (.ref 60), none, none, some (.int x3)]) (st := [.ref 61, .int 7, .ref 74]) (σ := (wi (wi σ 74 s1.toNatClampNeg s0) 74 6 x3)) rfl ((fX7_placeAt_ok _ _ q20 h21).deep (Nat.le_of_ble_eq_true rfl)) ?_
  refine go_n 3 (f := (119, [some (.ref 60), none, none, some (.int x3)], [.int (q20 + (gi σ 60 6)), .ref 61, .int 7, .ref 74], (wi (wi σ 74 s1.toNatClampNeg s0) 74 6 x3))) rfl ?_
  obtain ⟨h22, hf⟩ := grd hf
  refine go_iald rfl rfl rfl h22 ?_
  refine go_n 1 (f := (121, [some (.ref 60), none, none, some (.int x3)], [], (wi (wi (wi σ 74 s1.toNatClampNeg s0) 74 6 x3) 74 7 (gi σ 61 (q20 + (gi σ 60 6)).toNatClampNeg)))) rfl ?_
  cases hf
  exact go_r rfl
def fX7_setFor (x1 : Int32) (x2 : Int32) (σ : Sg) : Option Sg :=
  (fX7_findDate x2 1 σ).bind fun q1 => (fX7_sourceOf x1 q1).bind fun q3 => (fX7_placeOf q3 (wi (wi q1 74 1 (gi q1 60 6)) 74 2 (gi q1 60 5))).bind fun q5 => (fX7_placeAt q5).bind fun q7 => if inb q7 39698 then (fX7_handOf q3 (wi (wi (wi q1 74 1 (gi q1 60 6)) 74 2 (gi q1 60 5)) 74 3 (gi q1 61 q7.toNatClampNeg))).bind fun q10 => (fX7_get x1 0 (wi (wi (wi (wi q1 74 1 (gi q1 60 6)) 74 2 (gi q1 60 5)) 74 3 (gi q1 61 q7.toNatClampNeg)) 74 4 q10)).bind fun q12 => if q12 ≠ 4 then (fX7_get x1 5 (wi (wi (wi (wi q1 74 1 (gi q1 60 6)) 74 2 (gi q1 60 5)) 74 3 (gi q1 61 q7.toNatClampNeg)) 74 4 q10)).bind fun q15 => fX7_setFor_J87 q3 q15 5  (wi (wi (wi (wi q1 74 1 (gi q1 60 6)) 74 2 (gi q1 60 5)) 74 3 (gi q1 61 q7.toNatClampNeg)) 74 4 q10) else fX7_setFor_J87 q3 0 5  (wi (wi (wi (wi q1 74 1 (gi q1 60 6)) 74 2 (gi q1 60 5)) 74 3 (gi q1 61 q7.toNatClampNeg)) 74 4 q10) else none
set_option maxHeartbeats 1500000 in
theorem fX7_setFor_ok (x1 : Int32) (x2 : Int32) (σ : Sg) (r : Sg) (hf : fX7_setFor x1 x2 σ = some r) : Cl true 3 12119 [.ref 60, .int x1, .int x2] σ (.inl none, r) := by
  refine ⟨iX7_setFor, rfl, Nat.le_of_ble_eq_true rfl, Nat.le_of_ble_eq_true rfl, ?_⟩
  show Go true 3 iX7_setFor (0, [some (.ref 60), some (.int x1), some (.int x2), none], [], σ) (.inl none, r)
  unfold fX7_setFor at hf
  refine go_n 3 (f := (3, [some (.ref 60), some (.int x1), some (.int x2), none], [.int 1, .int x2, .ref 60], σ)) rfl ?_
  obtain ⟨q1, h2, hf⟩ := bnd hf
  refine go_c (mid := 12044) (args := [.ref 60, .int x2, .int 1]) (pc := 6) (L := [some (.ref 60), some (.int x1), some (.int x2), none]) (st := []) (σ := σ) rfl ((fX7_findDate_ok _ _ _ q1 h2).deep (Nat.le_of_ble_eq_true rfl)) ?_
  refine go_n 2 (f := (8, [some (.ref 60), some (.int x1), some (.int x2), none], [.int x1, .ref 60], q1)) rfl ?_
  obtain ⟨q3, h4, hf⟩ := bnd hf
  refine go_c (mid := 12066) (args := [.ref 60, .int x1]) (pc := 11) (L := [some (.ref 60), some (.int x1), some (.int x2), none]) (st := []) (σ := q1) rfl ((fX7_sourceOf_ok _ _ q3 h4).deep (Nat.le_of_ble_eq_true rfl)) ?_
  refine go_n 7 (f := (22, [some (.ref 60), some (.int x1), some (.int x2), some (.int q3)], [], (wi q1 74 1 (gi q1 60 6)))) rfl ?_
  refine go_n 10 (f := (38, [some (.ref 60), some (.int x1), some (.int x2), some (.int q3)], [.ref 60, .int 3, .ref 74], (wi (wi q1 74 1 (gi q1 60 6)) 74 2 (gi q1 60 5)))) rfl ?_
  refine go_n 3 (f := (43, [some (.ref 60), some (.int x1), some (.int x2), some (.int q3)], [.int q3, .ref 60, .ref 61, .int 3, .ref 74], (wi (wi q1 74 1 (gi q1 60 6)) 74 2 (gi q1 60 5)))) rfl ?_
  obtain ⟨q5, h6, hf⟩ := bnd hf
  refine go_c (mid := 12120) (args := [.ref 60, .int q3]) (pc := 46) (L := [some (.ref 60), some (.int x1), some (.int x2), some (.int q3)]) (st := [.ref 61, .int 3, .ref 74]) (σ := (wi (wi q1 74 1 (gi q1 60 6)) 74 2 (gi q1 60 5))) rfl ((fX7_placeOf_ok _ _ q5 h6).deep (Nat.le_of_ble_eq_true rfl)) ?_
  obtain ⟨q7, h8, hf⟩ := bnd hf
  refine go_c (mid := 12046) (args := [.int q5]) (pc := 49) (L := [some (.ref 60), some (.int x1), some (.int x2), some (.int q3)]) (st := [.ref 61, .int 3, .ref 74]) (σ := (wi (wi q1 74 1 (gi q1 60 6)) 74 2 (gi q1 60 5))) rfl ((fX7_placeAt_ok _ _ q7 h8).deep (Nat.le_of_ble_eq_true rfl)) ?_
  obtain ⟨h9, hf⟩ := grd hf
  refine go_iald rfl rfl rfl h9 ?_
  refine go_n 6 (f := (58, [some (.ref 60), some (.int x1), some (.int x2), some (.int q3)], [.int q3, .ref 60, .int 4, .ref 74], (wi (wi (wi q1 74 1 (gi q1 60 6)) 74 2 (gi q1 60 5)) 74 3 (gi q1 61 q7.toNatClampNeg)))) rfl ?_
  obtain ⟨q10, h11, hf⟩ := bnd hf
  refine go_c (mid := 12121) (args := [.ref 60, .int q3]) (pc := 61) (L := [some (.ref 60), some (.int x1), some (.int x2), some (.int q3)]) (st := [.int 4, .ref 74]) (σ := (wi (wi (wi q1 74 1 (gi q1 60 6)) 74 2 (gi q1 60 5)) 74 3 (gi q1 61 q7.toNatClampNeg))) rfl ((fX7_handOf_ok _ _ q10 h11).deep (Nat.le_of_ble_eq_true rfl)) ?_
  refine go_n 7 (f := (70, [some (.ref 60), some (.int x1), some (.int x2), some (.int q3)], [.int 0, .int x1, .ref 60, .int 5, .ref 74], (wi (wi (wi (wi q1 74 1 (gi q1 60 6)) 74 2 (gi q1 60 5)) 74 3 (gi q1 61 q7.toNatClampNeg)) 74 4 q10))) rfl ?_
  obtain ⟨q12, h13, hf⟩ := bnd hf
  refine go_c (mid := 12067) (args := [.ref 60, .int x1, .int 0]) (pc := 73) (L := [some (.ref 60), some (.int x1), some (.int x2), some (.int q3)]) (st := [.int 5, .ref 74]) (σ := (wi (wi (wi (wi q1 74 1 (gi q1 60 6)) 74 2 (gi q1 60 5)) 74 3 (gi q1 61 q7.toNatClampNeg)) 74 4 q10)) rfl ((fX7_get_ok _ _ _ q12 h13).deep (Nat.le_of_ble_eq_true rfl)) ?_
  refine go_n 1 (f := (74, [some (.ref 60), some (.int x1), some (.int x2), some (.int q3)], [.int 4, .int q12, .int 5, .ref 74], (wi (wi (wi (wi q1 74 1 (gi q1 60 6)) 74 2 (gi q1 60 5)) 74 3 (gi q1 61 q7.toNatClampNeg)) 74 4 q10))) rfl ?_
  by_cases h14 : q12 ≠ 4
  · rw [if_pos h14] at hf
    refine go_it (t := 81) (f := 77) (L1 := [some (.ref 60), some (.int x1), some (.int x2), some (.int q3)]) (st1 := [.int 5, .ref 74]) (σ1 := (wi (wi (wi (wi q1 74 1 (gi q1 60 6)) 74 2 (gi q1 60 5)) 74 3 (gi q1 61 q7.toNatClampNeg)) 74 4 q10)) rfl h14 ?_
    refine go_n 3 (f := (84, [some (.ref 60), some (.int x1), some (.int x2), some (.int q3)], [.int 5, .int x1, .ref 60, .int 5, .ref 74], (wi (wi (wi (wi q1 74 1 (gi q1 60 6)) 74 2 (gi q1 60 5)) 74 3 (gi q1 61 q7.toNatClampNeg)) 74 4 q10))) rfl ?_
    obtain ⟨q15, h16, hf⟩ := bnd hf
    refine go_c (mid := 12067) (args := [.ref 60, .int x1, .int 5]) (pc := 87) (L := [some (.ref 60), some (.int x1), some (.int x2), some (.int q3)]) (st := [.int 5, .ref 74]) (σ := (wi (wi (wi (wi q1 74 1 (gi q1 60 6)) 74 2 (gi q1 60 5)) 74 3 (gi q1 61 q7.toNatClampNeg)) 74 4 q10)) rfl ((fX7_get_ok _ _ _ q15 h16).deep (Nat.le_of_ble_eq_true rfl)) ?_
    refine go_e (L1 := [some (.ref 60), none, none, some (.int q3)]) rfl rfl ?_
    exact fX7_setFor_J87_ok _ _ _  _  _ hf
  · rw [if_neg h14] at hf
    refine go_if (t := 81) (f := 77) (L1 := [some (.ref 60), some (.int x1), some (.int x2), some (.int q3)]) (st1 := [.int 5, .ref 74]) (σ1 := (wi (wi (wi (wi q1 74 1 (gi q1 60 6)) 74 2 (gi q1 60 5)) 74 3 (gi q1 61 q7.toNatClampNeg)) 74 4 q10)) rfl h14 ?_
    refine go_n 2 (f := (87, [some (.ref 60), some (.int x1), some (.int x2), some (.int q3)], [.int 0, .int 5, .ref 74], (wi (wi (wi (wi q1 74 1 (gi q1 60 6)) 74 2 (gi q1 60 5)) 74 3 (gi q1 61 q7.toNatClampNeg)) 74 4 q10))) rfl ?_
    refine go_e (L1 := [some (.ref 60), none, none, some (.int q3)]) rfl rfl ?_
    exact fX7_setFor_J87_ok _ _ _  _  _ hf
/-! OldWeatherModel.run(III)V -/
def fX7_run_J314 (x4 : Int32)  (σ : Sg) : Option Sg :=
  ((fun (z3 : Int64) => some (wl σ 60 37 z3)) (if x4 ≤ 0 then 0 else (gl σ 75 0)))
set_option maxHeartbeats 1500000 in
theorem fX7_run_J314_ok (x4 : Int32)  (σ : Sg)  (r : Sg) (hf : fX7_run_J314 x4  σ = some r) : Go true 1 iX7_run (314, [some (.ref 60), none, none, none, some (.int x4), none, none, none], [], σ) (.inl none, r) := by
  unfold fX7_run_J314 at hf
  refine go_n 2 (f := (317, [some (.ref 60), none, none, none, some (.int x4), none, none, none], [.int x4, .ref 60], σ)) rfl ?_
  refine go_m (f := (330, [none, none, none, none, none, none, none, none], [.long (if x4 ≤ 0 then 0 else (gl σ 75 0)), .ref 60], σ)) ?_ (fun hJ4 => ?_)
  · generalize hz3 : (if x4 ≤ 0 then 0 else (gl σ 75 0)) = z3 at hf ⊢
    try dsimp only at hf
    refine go_n 1 (f := (333, [none, none, none, none, none, none, none, none], [], (wl σ 60 37 z3))) rfl ?_
    cases hf
    exact go_r rfl
  · by_cases h2 : x4 ≤ 0
    · refine go_it (t := 329) (f := 320) (L1 := [some (.ref 60), none, none, none, some (.int x4), none, none, none]) (st1 := [.ref 60]) (σ1 := σ) rfl h2 ?_
      refine go_n 1 (f := (330, [some (.ref 60), none, none, none, some (.int x4), none, none, none], [.long 0, .ref 60], σ)) rfl ?_
      refine go_e (L1 := [none, none, none, none, none, none, none, none]) rfl rfl ?_
      simp only [if_pos h2] at hJ4
      first | exact hJ4 | (simp only [if_pos h2]; exact hJ4)
    · refine go_if (t := 329) (f := 320) (L1 := [some (.ref 60), none, none, none, some (.int x4), none, none, none]) (st1 := [.ref 60]) (σ1 := σ) rfl h2 ?_
      refine go_n 5 (f := (330, [some (.ref 60), none, none, none, some (.int x4), none, none, none], [.long (gl σ 75 0), .ref 60], σ)) rfl ?_
      refine go_e (L1 := [none, none, none, none, none, none, none, none]) rfl rfl ?_
      simp only [if_neg h2] at hJ4
      first | exact hJ4 | (simp only [if_neg h2]; exact hJ4)
def fX7_run_J311 (x1 : Int32) (x3 : Int32) (x4 : Int32) (x5 : Int32) (rec11 : (Int32 × Int32 × Sg) → Option Sg) (σ : Sg) : Option Sg :=
  rec11 (x4, x5, σ)
set_option maxHeartbeats 1500000 in
theorem fX7_run_J311_ok (x1 : Int32) (x3 : Int32) (x4 : Int32) (x5 : Int32) (rec11 : (Int32 × Int32 × Sg) → Option Sg) (σ : Sg) (hrec11 : ∀ (y4 : Int32) (y5 : Int32) (τ : Sg) (r : Sg), rec11 (y4, y5, τ) = some r → Go true 1 iX7_run (11, [some (.ref 60), some (.int x1), none, some (.int x3), some (.int y4), some (.int y5), none, none], [], τ) (.inl none, r)) (r : Sg) (hf : fX7_run_J311 x1 x3 x4 x5 rec11 σ = some r) : Go true 1 iX7_run (311, [some (.ref 60), some (.int x1), none, some (.int x3), some (.int x4), some (.int x5), none, none], [], σ) (.inl none, r) := by
  unfold fX7_run_J311 at hf
  refine go_n 1 (f := (11, [some (.ref 60), some (.int x1), none, some (.int x3), some (.int x4), some (.int x5), none, none], [], σ)) rfl ?_
  exact hrec11 _ _ _ _ hf
def fX7_run_J211 (x1 : Int32) (x3 : Int32) (x4 : Int32) (x5 : Int32) (s0 : Int32) (rec11 : (Int32 × Int32 × Sg) → Option Sg) (σ : Sg) : Option Sg :=
  if am_ok 3 s0 = true then fX7_run_J311 x1 x3 x4 x5 rec11 (wi σ 60 36 s0) else none
set_option maxHeartbeats 1500000 in
theorem fX7_run_J211_ok (x1 : Int32) (x3 : Int32) (x4 : Int32) (x5 : Int32) (s0 : Int32) (rec11 : (Int32 × Int32 × Sg) → Option Sg) (σ : Sg) (hrec11 : ∀ (y4 : Int32) (y5 : Int32) (τ : Sg) (r : Sg), rec11 (y4, y5, τ) = some r → Go true 1 iX7_run (11, [some (.ref 60), some (.int x1), none, some (.int x3), some (.int y4), some (.int y5), none, none], [], τ) (.inl none, r)) (r : Sg) (hf : fX7_run_J211 x1 x3 x4 x5 s0 rec11 σ = some r) : Go true 1 iX7_run (211, [some (.ref 60), some (.int x1), none, some (.int x3), some (.int x4), some (.int x5), none, none], [.int s0, .ref 60], σ) (.inl none, r) := by
  unfold fX7_run_J211 at hf
  obtain ⟨h34, hf⟩ := grd hf
  refine go_puti rfl rfl rfl rfl rfl h34 rfl ?_
  refine go_n 1 (f := (311, [some (.ref 60), some (.int x1), none, some (.int x3), some (.int x4), some (.int x5), none, none], [], (wi σ 60 36 s0))) rfl ?_
  exact fX7_run_J311_ok _ _ _ _ _ _ hrec11 _ hf
def fX7_run_J206 (x1 : Int32) (x3 : Int32) (x4 : Int32) (x5 : Int32) (rec11 : (Int32 × Int32 × Sg) → Option Sg) (σ : Sg) : Option Sg :=
  fX7_run_J211 x1 x3 x4 x5 1 rec11 σ
set_option maxHeartbeats 1500000 in
theorem fX7_run_J206_ok (x1 : Int32) (x3 : Int32) (x4 : Int32) (x5 : Int32) (rec11 : (Int32 × Int32 × Sg) → Option Sg) (σ : Sg) (hrec11 : ∀ (y4 : Int32) (y5 : Int32) (τ : Sg) (r : Sg), rec11 (y4, y5, τ) = some r → Go true 1 iX7_run (11, [some (.ref 60), some (.int x1), none, some (.int x3), some (.int y4), some (.int y5), none, none], [], τ) (.inl none, r)) (r : Sg) (hf : fX7_run_J206 x1 x3 x4 x5 rec11 σ = some r) : Go true 1 iX7_run (206, [some (.ref 60), some (.int x1), none, some (.int x3), some (.int x4), some (.int x5), none, none], [.ref 60], σ) (.inl none, r) := by
  unfold fX7_run_J206 at hf
  refine go_n 2 (f := (211, [some (.ref 60), some (.int x1), none, some (.int x3), some (.int x4), some (.int x5), none, none], [.int 1, .ref 60], σ)) rfl ?_
  exact fX7_run_J211_ok _ _ _ _ _ _ _ hrec11 _ hf
def fX7_run_J101 (x1 : Int32) (x3 : Int32) (x4 : Int32) (x5 : Int32) (s0 : Int64) (s1 : Int32) (rec11 : (Int32 × Int32 × Sg) → Option Sg) (σ : Sg) : Option Sg :=
  if inb s1 400 then if inb x4 400 then (fX7_in (gl (wl σ 75 s1.toNatClampNeg s0) 75 x4.toNatClampNeg) (-1000000) 1000000).bind fun q45 => ((fun (z48 : Int32) => fX7_run_J311 x1 x3 (x4 + 1) x5 rec11 (wi (wl σ 75 s1.toNatClampNeg s0) 60 36 z48)) ((if q45 ≠ 0 then 0 else 1) : Int32)) else none else none
set_option maxHeartbeats 1500000 in
theorem fX7_run_J101_ok (x1 : Int32) (x3 : Int32) (x4 : Int32) (x5 : Int32) (s0 : Int64) (s1 : Int32) (rec11 : (Int32 × Int32 × Sg) → Option Sg) (σ : Sg) (hrec11 : ∀ (y4 : Int32) (y5 : Int32) (τ : Sg) (r : Sg), rec11 (y4, y5, τ) = some r → Go true 1 iX7_run (11, [some (.ref 60), some (.int x1), none, some (.int x3), some (.int y4), some (.int y5), none, none], [], τ) (.inl none, r)) (r : Sg) (hf : fX7_run_J101 x1 x3 x4 x5 s0 s1 rec11 σ = some r) : Go true 1 iX7_run (101, [some (.ref 60), some (.int x1), none, some (.int x3), some (.int x4), some (.int x5), none, none], [.long s0, .int s1, .ref 75], σ) (.inl none, r) := by
  unfold fX7_run_J101 at hf
  obtain ⟨h43, hf⟩ := grd hf
  refine go_last rfl rfl rfl h43 ?_
  refine go_n 4 (f := (109, [some (.ref 60), some (.int x1), none, some (.int x3), some (.int x4), some (.int x5), none, none], [.int x4, .ref 75, .ref 60], (wl σ 75 s1.toNatClampNeg s0))) rfl ?_
  obtain ⟨h44, hf⟩ := grd hf
  refine go_lald rfl rfl rfl h44 ?_
  refine go_n 2 (f := (116, [some (.ref 60), some (.int x1), none, some (.int x3), some (.int x4), some (.int x5), none, none], [.long 1000000, .long (-1000000), .long (gl (wl σ 75 s1.toNatClampNeg s0) 75 x4.toNatClampNeg), .ref 60], (wl σ 75 s1.toNatClampNeg s0))) rfl ?_
  obtain ⟨q45, h46, hf⟩ := bnd hf
  refine go_c (mid := 12034) (args := [.long (gl (wl σ 75 s1.toNatClampNeg s0) 75 x4.toNatClampNeg), .long (-1000000), .long 1000000]) (pc := 119) (L := [some (.ref 60), some (.int x1), none, some (.int x3), some (.int x4), some (.int x5), none, none]) (st := [.ref 60]) (σ := (wl σ 75 s1.toNatClampNeg s0)) rfl ((fX7_in_ok _ _ _ _ q45 h46).deep (Nat.le_of_ble_eq_true rfl)) ?_
  refine go_m (f := (127, [some (.ref 60), some (.int x1), none, some (.int x3), some (.int x4), some (.int x5), none, none], [.int ((if q45 ≠ 0 then 0 else 1) : Int32), .ref 60], (wl σ 75 s1.toNatClampNeg s0))) ?_ (fun hJ49 => ?_)
  · generalize hz48 : ((if q45 ≠ 0 then 0 else 1) : Int32) = z48 at hf ⊢
    have oz48 : am_ok 3 z48 = true := hz48 ▸ (okb rfl rfl)
    try dsimp only at hf
    refine go_puti rfl rfl rfl rfl rfl oz48 rfl ?_
    refine go_n 2 (f := (311, [some (.ref 60), some (.int x1), none, some (.int x3), some (.int (x4 + 1)), some (.int x5), none, none], [], (wi (wl σ 75 s1.toNatClampNeg s0) 60 36 z48))) rfl ?_
    exact fX7_run_J311_ok _ _ _ _ _ _ hrec11 _ hf
  · by_cases h47 : q45 ≠ 0
    · refine go_it (t := 126) (f := 122) (L1 := [some (.ref 60), some (.int x1), none, some (.int x3), some (.int x4), some (.int x5), none, none]) (st1 := [.ref 60]) (σ1 := (wl σ 75 s1.toNatClampNeg s0)) rfl h47 ?_
      refine go_n 1 (f := (127, [some (.ref 60), some (.int x1), none, some (.int x3), some (.int x4), some (.int x5), none, none], [.int 0, .ref 60], (wl σ 75 s1.toNatClampNeg s0))) rfl ?_
      refine go_e (L1 := [some (.ref 60), some (.int x1), none, some (.int x3), some (.int x4), some (.int x5), none, none]) rfl rfl ?_
      simp only [if_pos h47] at hJ49
      first | exact hJ49 | (simp only [if_pos h47]; exact hJ49)
    · refine go_if (t := 126) (f := 122) (L1 := [some (.ref 60), some (.int x1), none, some (.int x3), some (.int x4), some (.int x5), none, none]) (st1 := [.ref 60]) (σ1 := (wl σ 75 s1.toNatClampNeg s0)) rfl h47 ?_
      refine go_n 2 (f := (127, [some (.ref 60), some (.int x1), none, some (.int x3), some (.int x4), some (.int x5), none, none], [.int 1, .ref 60], (wl σ 75 s1.toNatClampNeg s0))) rfl ?_
      refine go_e (L1 := [some (.ref 60), some (.int x1), none, some (.int x3), some (.int x4), some (.int x5), none, none]) rfl rfl ?_
      simp only [if_neg h47] at hJ49
      first | exact hJ49 | (simp only [if_neg h47]; exact hJ49)
def fX7_run_L11 (x1 : Int32) (x3 : Int32)  (rec11 : (Int32 × Int32 × Sg) → Option Sg) (s : Int32 × Int32 × Sg) : Option Sg :=
  match s with
  | (x4, x5, σ) => if x3 ≤ x5 then fX7_run_J314 x4  σ else if (gi σ 60 36) ≠ 0 then fX7_run_J314 x4  σ else (fX7_textAt x1).bind fun q6 => if inb ((q6 + 146) + (2 * x5)) 39698 then (fX7_textAt x1).bind fun q9 => if inb (((q9 + 146) + (2 * x5)) + 1) 39698 then if 8 ≤ (gi σ 61 ((q6 + 146) + (2 * x5)).toNatClampNeg) then if 15 ≤ (gi σ 61 ((q6 + 146) + (2 * x5)).toNatClampNeg) then if (gi σ 61 ((q6 + 146) + (2 * x5)).toNatClampNeg) ≠ 15 then if (gi σ 61 ((q6 + 146) + (2 * x5)).toNatClampNeg) ≠ 17 then if inb (x4 - 1) 400 then ((fun (z18 : Int64) => ((fun (z20 : Int32) (z21 : Int32) => rec11 (z20, z21, σ)) (if (gl σ 75 (x4 - 1).toNatClampNeg) ≠ z18 then (x4 + (-1)) else x4) (if (gl σ 75 (x4 - 1).toNatClampNeg) ≠ z18 then (x5 + 1) else (gi σ 61 (((q9 + 146) + (2 * x5)) + 1).toNatClampNeg)))) ((if (gi σ 61 ((q6 + 146) + (2 * x5)).toNatClampNeg) ≠ 18 then 1 else 0) : Int64)) else none else if inb (x4 - 1) 400 then if inb (x4 - 1) 400 then fX7_run_J311 x1 x3 x4 (x5 + 1) rec11 (wl σ 75 (x4 - 1).toNatClampNeg (1 - (gl σ 75 (x4 - 1).toNatClampNeg))) else none else none else if inb (x4 - 1) 400 then if inb (x4 - 1) 400 then fX7_run_J311 x1 x3 x4 (x5 + 1) rec11 (wl σ 75 (x4 - 1).toNatClampNeg (-(gl σ 75 (x4 - 1).toNatClampNeg))) else none else none else if inb ((x4 + (-1)) - 1) 400 then if inb (x4 + (-1)) 400 then (fX7_reckon (gi σ 61 ((q6 + 146) + (2 * x5)).toNatClampNeg) (gl σ 75 ((x4 + (-1)) - 1).toNatClampNeg) (gl σ 75 (x4 + (-1)).toNatClampNeg) σ).bind fun q30 => if inb ((x4 + (-1)) - 1) 400 then if (gi q30.2 60 36) ≠ 0 then fX7_run_J206 x1 x3 (x4 + (-1)) (x5 + 1) rec11 (wl q30.2 75 ((x4 + (-1)) - 1).toNatClampNeg q30.1) else if inb ((x4 + (-1)) - 1) 400 then (fX7_in (gl (wl q30.2 75 ((x4 + (-1)) - 1).toNatClampNeg q30.1) 75 ((x4 + (-1)) - 1).toNatClampNeg) (-1000000) 1000000).bind fun q36 => ((fun (z39 : Int32) => fX7_run_J311 x1 x3 (x4 + (-1)) (x5 + 1) rec11 (wi (wl q30.2 75 ((x4 + (-1)) - 1).toNatClampNeg q30.1) 60 36 z39)) ((if q36 ≠ 0 then 0 else 1) : Int32)) else none else none else none else none else if (gi σ 61 ((q6 + 146) + (2 * x5)).toNatClampNeg) ≠ 0 then if inb (gi σ 61 ((q6 + 146) + (2 * x5)).toNatClampNeg) 8 then fX7_run_J101 x1 x3 x4 (x5 + 1) (gi σ 74 (gi σ 61 ((q6 + 146) + (2 * x5)).toNatClampNeg).toNatClampNeg).toInt64 x4 rec11 σ else none else fX7_run_J101 x1 x3 x4 (x5 + 1) (gi σ 61 (((q9 + 146) + (2 * x5)) + 1).toNatClampNeg).toInt64 x4 rec11 σ else none else none
set_option maxHeartbeats 1500000 in
theorem fX7_run_L11_ok (x1 : Int32) (x3 : Int32)   : ∀ (n : Nat) (x4 : Int32) (x5 : Int32) (σ : Sg) (r : Sg), lp (fX7_run_L11 x1 x3 ) n (x4, x5, σ) = some r → Go true 1 iX7_run (11, [some (.ref 60), some (.int x1), none, some (.int x3), some (.int x4), some (.int x5), none, none], [], σ) (.inl none, r) := by
  intro n
  induction n with
  | zero => intro x4 x5 σ r hf; cases hf
  | succ n ih =>
    intro x4 x5 σ r hf
    have hf : fX7_run_L11 x1 x3  (lp (fX7_run_L11 x1 x3 ) n) (x4, x5, σ) = some r := hf
    have hrec11 := ih
    generalize lp (fX7_run_L11 x1 x3 ) n = rec11 at hf hrec11
    unfold fX7_run_L11 at hf
    dsimp only at hf
    refine go_n 2 (f := (14, [some (.ref 60), some (.int x1), none, some (.int x3), some (.int x4), some (.int x5), none, none], [.int x3, .int x5], σ)) rfl ?_
    by_cases h1 : x3 ≤ x5
    · rw [if_pos h1] at hf
      refine go_it (t := 314) (f := 17) (L1 := [some (.ref 60), some (.int x1), none, some (.int x3), some (.int x4), some (.int x5), none, none]) (st1 := []) (σ1 := σ) rfl h1 ?_
      refine go_e (L1 := [some (.ref 60), none, none, none, some (.int x4), none, none, none]) rfl rfl ?_
      exact fX7_run_J314_ok _  _  _ hf
    · rw [if_neg h1] at hf
      refine go_if (t := 314) (f := 17) (L1 := [some (.ref 60), some (.int x1), none, some (.int x3), some (.int x4), some (.int x5), none, none]) (st1 := []) (σ1 := σ) rfl h1 ?_
      refine go_n 2 (f := (21, [some (.ref 60), some (.int x1), none, some (.int x3), some (.int x4), some (.int x5), none, none], [.int (gi σ 60 36)], σ)) rfl ?_
      by_cases h5 : (gi σ 60 36) ≠ 0
      · rw [if_pos h5] at hf
        refine go_it (t := 314) (f := 24) (L1 := [some (.ref 60), some (.int x1), none, some (.int x3), some (.int x4), some (.int x5), none, none]) (st1 := []) (σ1 := σ) rfl h5 ?_
        refine go_e (L1 := [some (.ref 60), none, none, none, some (.int x4), none, none, none]) rfl rfl ?_
        exact fX7_run_J314_ok _  _  _ hf
      · rw [if_neg h5] at hf
        refine go_if (t := 314) (f := 24) (L1 := [some (.ref 60), some (.int x1), none, some (.int x3), some (.int x4), some (.int x5), none, none]) (st1 := []) (σ1 := σ) rfl h5 ?_
        refine go_n 3 (f := (29, [some (.ref 60), some (.int x1), none, some (.int x3), some (.int x4), some (.int x5), none, none], [.int x1, .ref 61], σ)) rfl ?_
        obtain ⟨q6, h7, hf⟩ := bnd hf
        refine go_c (mid := 12105) (args := [.int x1]) (pc := 32) (L := [some (.ref 60), some (.int x1), none, some (.int x3), some (.int x4), some (.int x5), none, none]) (st := [.ref 61]) (σ := σ) rfl ((fX7_textAt_ok _ _ q6 h7).deep (Nat.le_of_ble_eq_true rfl)) ?_
        refine go_n 6 (f := (41, [some (.ref 60), some (.int x1), none, some (.int x3), some (.int x4), some (.int x5), none, none], [.int ((q6 + 146) + (2 * x5)), .ref 61], σ)) rfl ?_
        obtain ⟨h8, hf⟩ := grd hf
        refine go_iald rfl rfl rfl h8 ?_
        refine go_n 4 (f := (49, [some (.ref 60), some (.int x1), none, some (.int x3), some (.int x4), some (.int x5), some (.int (gi σ 61 ((q6 + 146) + (2 * x5)).toNatClampNeg)), none], [.int x1, .ref 61], σ)) rfl ?_
        obtain ⟨q9, h10, hf⟩ := bnd hf
        refine go_c (mid := 12105) (args := [.int x1]) (pc := 52) (L := [some (.ref 60), some (.int x1), none, some (.int x3), some (.int x4), some (.int x5), some (.int (gi σ 61 ((q6 + 146) + (2 * x5)).toNatClampNeg)), none]) (st := [.ref 61]) (σ := σ) rfl ((fX7_textAt_ok _ _ q9 h10).deep (Nat.le_of_ble_eq_true rfl)) ?_
        refine go_n 8 (f := (63, [some (.ref 60), some (.int x1), none, some (.int x3), some (.int x4), some (.int x5), some (.int (gi σ 61 ((q6 + 146) + (2 * x5)).toNatClampNeg)), none], [.int (((q9 + 146) + (2 * x5)) + 1), .ref 61], σ)) rfl ?_
        obtain ⟨h11, hf⟩ := grd hf
        refine go_iald rfl rfl rfl h11 ?_
        refine go_n 2 (f := (69, [some (.ref 60), some (.int x1), none, some (.int x3), some (.int x4), some (.int (x5 + 1)), some (.int (gi σ 61 ((q6 + 146) + (2 * x5)).toNatClampNeg)), some (.int (gi σ 61 (((q9 + 146) + (2 * x5)) + 1).toNatClampNeg))], [], σ)) rfl ?_
        refine go_n 2 (f := (73, [some (.ref 60), some (.int x1), none, some (.int x3), some (.int x4), some (.int (x5 + 1)), some (.int (gi σ 61 ((q6 + 146) + (2 * x5)).toNatClampNeg)), some (.int (gi σ 61 (((q9 + 146) + (2 * x5)) + 1).toNatClampNeg))], [.int 8, .int (gi σ 61 ((q6 + 146) + (2 * x5)).toNatClampNeg)], σ)) rfl ?_
        by_cases h12 : 8 ≤ (gi σ 61 ((q6 + 146) + (2 * x5)).toNatClampNeg)
        · rw [if_pos h12] at hf
          refine go_it (t := 136) (f := 76) (L1 := [some (.ref 60), some (.int x1), none, some (.int x3), some (.int x4), some (.int (x5 + 1)), some (.int (gi σ 61 ((q6 + 146) + (2 * x5)).toNatClampNeg)), some (.int (gi σ 61 (((q9 + 146) + (2 * x5)) + 1).toNatClampNeg))]) (st1 := []) (σ1 := σ) rfl h12 ?_
          refine go_n 2 (f := (140, [some (.ref 60), some (.int x1), none, some (.int x3), some (.int x4), some (.int (x5 + 1)), some (.int (gi σ 61 ((q6 + 146) + (2 * x5)).toNatClampNeg)), some (.int (gi σ 61 (((q9 + 146) + (2 * x5)) + 1).toNatClampNeg))], [.int 15, .int (gi σ 61 ((q6 + 146) + (2 * x5)).toNatClampNeg)], σ)) rfl ?_
          by_cases h13 : 15 ≤ (gi σ 61 ((q6 + 146) + (2 * x5)).toNatClampNeg)
          · rw [if_pos h13] at hf
            refine go_it (t := 217) (f := 143) (L1 := [some (.ref 60), some (.int x1), none, some (.int x3), some (.int x4), some (.int (x5 + 1)), some (.int (gi σ 61 ((q6 + 146) + (2 * x5)).toNatClampNeg)), some (.int (gi σ 61 (((q9 + 146) + (2 * x5)) + 1).toNatClampNeg))]) (st1 := []) (σ1 := σ) rfl h13 ?_
            refine go_n 2 (f := (221, [some (.ref 60), some (.int x1), none, some (.int x3), some (.int x4), some (.int (x5 + 1)), some (.int (gi σ 61 ((q6 + 146) + (2 * x5)).toNatClampNeg)), some (.int (gi σ 61 (((q9 + 146) + (2 * x5)) + 1).toNatClampNeg))], [.int 15, .int (gi σ 61 ((q6 + 146) + (2 * x5)).toNatClampNeg)], σ)) rfl ?_
            by_cases h14 : (gi σ 61 ((q6 + 146) + (2 * x5)).toNatClampNeg) ≠ 15
            · rw [if_pos h14] at hf
              refine go_it (t := 246) (f := 224) (L1 := [some (.ref 60), some (.int x1), none, some (.int x3), some (.int x4), some (.int (x5 + 1)), some (.int (gi σ 61 ((q6 + 146) + (2 * x5)).toNatClampNeg)), some (.int (gi σ 61 (((q9 + 146) + (2 * x5)) + 1).toNatClampNeg))]) (st1 := []) (σ1 := σ) rfl h14 ?_
              refine go_n 2 (f := (250, [some (.ref 60), some (.int x1), none, some (.int x3), some (.int x4), some (.int (x5 + 1)), some (.int (gi σ 61 ((q6 + 146) + (2 * x5)).toNatClampNeg)), some (.int (gi σ 61 (((q9 + 146) + (2 * x5)) + 1).toNatClampNeg))], [.int 17, .int (gi σ 61 ((q6 + 146) + (2 * x5)).toNatClampNeg)], σ)) rfl ?_
              by_cases h15 : (gi σ 61 ((q6 + 146) + (2 * x5)).toNatClampNeg) ≠ 17
              · rw [if_pos h15] at hf
                refine go_it (t := 276) (f := 253) (L1 := [some (.ref 60), some (.int x1), none, some (.int x3), some (.int x4), some (.int (x5 + 1)), some (.int (gi σ 61 ((q6 + 146) + (2 * x5)).toNatClampNeg)), some (.int (gi σ 61 (((q9 + 146) + (2 * x5)) + 1).toNatClampNeg))]) (st1 := []) (σ1 := σ) rfl h15 ?_
                refine go_n 5 (f := (284, [some (.ref 60), some (.int x1), none, some (.int x3), some (.int x4), some (.int (x5 + 1)), some (.int (gi σ 61 ((q6 + 146) + (2 * x5)).toNatClampNeg)), some (.int (gi σ 61 (((q9 + 146) + (2 * x5)) + 1).toNatClampNeg))], [.int (x4 - 1), .ref 75], σ)) rfl ?_
                obtain ⟨h16, hf⟩ := grd hf
                refine go_lald rfl rfl rfl h16 ?_
                refine go_n 2 (f := (289, [some (.ref 60), some (.int x1), none, some (.int x3), some (.int x4), some (.int (x5 + 1)), some (.int (gi σ 61 ((q6 + 146) + (2 * x5)).toNatClampNeg)), some (.int (gi σ 61 (((q9 + 146) + (2 * x5)) + 1).toNatClampNeg))], [.int 18, .int (gi σ 61 ((q6 + 146) + (2 * x5)).toNatClampNeg), .long (gl σ 75 (x4 - 1).toNatClampNeg)], σ)) rfl ?_
                refine go_m (f := (297, [some (.ref 60), some (.int x1), none, some (.int x3), some (.int x4), some (.int (x5 + 1)), none, some (.int (gi σ 61 (((q9 + 146) + (2 * x5)) + 1).toNatClampNeg))], [.long ((if (gi σ 61 ((q6 + 146) + (2 * x5)).toNatClampNeg) ≠ 18 then 1 else 0) : Int64), .long (gl σ 75 (x4 - 1).toNatClampNeg)], σ)) ?_ (fun hJ23 => ?_)
                · generalize hz18 : ((if (gi σ 61 ((q6 + 146) + (2 * x5)).toNatClampNeg) ≠ 18 then 1 else 0) : Int64) = z18 at hf ⊢
                  try dsimp only at hf
                  refine go_n 1 (f := (298, [some (.ref 60), some (.int x1), none, some (.int x3), some (.int x4), some (.int (x5 + 1)), none, some (.int (gi σ 61 (((q9 + 146) + (2 * x5)) + 1).toNatClampNeg))], [.int (lg_cmp (gl σ 75 (x4 - 1).toNatClampNeg) z18)], σ)) rfl ?_
                  refine go_m (f := (311, [some (.ref 60), some (.int x1), none, some (.int x3), some (.int (if (gl σ 75 (x4 - 1).toNatClampNeg) ≠ z18 then (x4 + (-1)) else x4)), some (.int (if (gl σ 75 (x4 - 1).toNatClampNeg) ≠ z18 then (x5 + 1) else (gi σ 61 (((q9 + 146) + (2 * x5)) + 1).toNatClampNeg))), none, none], [], σ)) ?_ (fun hJ22 => ?_)
                  · generalize hz20 : (if (gl σ 75 (x4 - 1).toNatClampNeg) ≠ z18 then (x4 + (-1)) else x4) = z20 at hf ⊢
                    generalize hz21 : (if (gl σ 75 (x4 - 1).toNatClampNeg) ≠ z18 then (x5 + 1) else (gi σ 61 (((q9 + 146) + (2 * x5)) + 1).toNatClampNeg)) = z21 at hf ⊢
                    try dsimp only at hf
                    refine go_n 1 (f := (11, [some (.ref 60), some (.int x1), none, some (.int x3), some (.int z20), some (.int z21), none, none], [], σ)) rfl ?_
                    exact hrec11 _ _ _ _ hf
                  · by_cases h19 : (gl σ 75 (x4 - 1).toNatClampNeg) ≠ z18
                    · refine go_it (t := 308) (f := 301) (L1 := [some (.ref 60), some (.int x1), none, some (.int x3), some (.int x4), some (.int (x5 + 1)), none, some (.int (gi σ 61 (((q9 + 146) + (2 * x5)) + 1).toNatClampNeg))]) (st1 := []) (σ1 := σ) rfl ((lgc_ne (gl σ 75 (x4 - 1).toNatClampNeg) z18).mpr h19) ?_
                      refine go_n 1 (f := (311, [some (.ref 60), some (.int x1), none, some (.int x3), some (.int (x4 + (-1))), some (.int (x5 + 1)), none, some (.int (gi σ 61 (((q9 + 146) + (2 * x5)) + 1).toNatClampNeg))], [], σ)) rfl ?_
                      refine go_e (L1 := [some (.ref 60), some (.int x1), none, some (.int x3), some (.int (x4 + (-1))), some (.int (x5 + 1)), none, none]) rfl rfl ?_
                      simp only [if_pos h19] at hJ22
                      first | exact hJ22 | (simp only [if_pos h19]; exact hJ22)
                    · refine go_if (t := 308) (f := 301) (L1 := [some (.ref 60), some (.int x1), none, some (.int x3), some (.int x4), some (.int (x5 + 1)), none, some (.int (gi σ 61 (((q9 + 146) + (2 * x5)) + 1).toNatClampNeg))]) (st1 := []) (σ1 := σ) rfl (fun q => h19 ((lgc_ne (gl σ 75 (x4 - 1).toNatClampNeg) z18).mp q)) ?_
                      refine go_n 3 (f := (311, [some (.ref 60), some (.int x1), none, some (.int x3), some (.int x4), some (.int (gi σ 61 (((q9 + 146) + (2 * x5)) + 1).toNatClampNeg)), none, some (.int (gi σ 61 (((q9 + 146) + (2 * x5)) + 1).toNatClampNeg))], [], σ)) rfl ?_
                      refine go_e (L1 := [some (.ref 60), some (.int x1), none, some (.int x3), some (.int x4), some (.int (gi σ 61 (((q9 + 146) + (2 * x5)) + 1).toNatClampNeg)), none, none]) rfl rfl ?_
                      simp only [if_neg h19] at hJ22
                      first | exact hJ22 | (simp only [if_neg h19]; exact hJ22)
                · by_cases h17 : (gi σ 61 ((q6 + 146) + (2 * x5)).toNatClampNeg) ≠ 18
                  · refine go_it (t := 296) (f := 292) (L1 := [some (.ref 60), some (.int x1), none, some (.int x3), some (.int x4), some (.int (x5 + 1)), some (.int (gi σ 61 ((q6 + 146) + (2 * x5)).toNatClampNeg)), some (.int (gi σ 61 (((q9 + 146) + (2 * x5)) + 1).toNatClampNeg))]) (st1 := [.long (gl σ 75 (x4 - 1).toNatClampNeg)]) (σ1 := σ) rfl h17 ?_
                    refine go_n 1 (f := (297, [some (.ref 60), some (.int x1), none, some (.int x3), some (.int x4), some (.int (x5 + 1)), some (.int (gi σ 61 ((q6 + 146) + (2 * x5)).toNatClampNeg)), some (.int (gi σ 61 (((q9 + 146) + (2 * x5)) + 1).toNatClampNeg))], [.long 1, .long (gl σ 75 (x4 - 1).toNatClampNeg)], σ)) rfl ?_
                    refine go_e (L1 := [some (.ref 60), some (.int x1), none, some (.int x3), some (.int x4), some (.int (x5 + 1)), none, some (.int (gi σ 61 (((q9 + 146) + (2 * x5)) + 1).toNatClampNeg))]) rfl rfl ?_
                    simp only [if_pos h17] at hJ23
                    first | exact hJ23 | (simp only [if_pos h17]; exact hJ23)
                  · refine go_if (t := 296) (f := 292) (L1 := [some (.ref 60), some (.int x1), none, some (.int x3), some (.int x4), some (.int (x5 + 1)), some (.int (gi σ 61 ((q6 + 146) + (2 * x5)).toNatClampNeg)), some (.int (gi σ 61 (((q9 + 146) + (2 * x5)) + 1).toNatClampNeg))]) (st1 := [.long (gl σ 75 (x4 - 1).toNatClampNeg)]) (σ1 := σ) rfl h17 ?_
                    refine go_n 2 (f := (297, [some (.ref 60), some (.int x1), none, some (.int x3), some (.int x4), some (.int (x5 + 1)), some (.int (gi σ 61 ((q6 + 146) + (2 * x5)).toNatClampNeg)), some (.int (gi σ 61 (((q9 + 146) + (2 * x5)) + 1).toNatClampNeg))], [.long 0, .long (gl σ 75 (x4 - 1).toNatClampNeg)], σ)) rfl ?_
                    refine go_e (L1 := [some (.ref 60), some (.int x1), none, some (.int x3), some (.int x4), some (.int (x5 + 1)), none, some (.int (gi σ 61 (((q9 + 146) + (2 * x5)) + 1).toNatClampNeg))]) rfl rfl ?_
                    simp only [if_neg h17] at hJ23
                    first | exact hJ23 | (simp only [if_neg h17]; exact hJ23)
              · rw [if_neg h15] at hf
                refine go_if (t := 276) (f := 253) (L1 := [some (.ref 60), some (.int x1), none, some (.int x3), some (.int x4), some (.int (x5 + 1)), some (.int (gi σ 61 ((q6 + 146) + (2 * x5)).toNatClampNeg)), some (.int (gi σ 61 (((q9 + 146) + (2 * x5)) + 1).toNatClampNeg))]) (st1 := []) (σ1 := σ) rfl h15 ?_
                refine go_n 10 (f := (269, [some (.ref 60), some (.int x1), none, some (.int x3), some (.int x4), some (.int (x5 + 1)), some (.int (gi σ 61 ((q6 + 146) + (2 * x5)).toNatClampNeg)), some (.int (gi σ 61 (((q9 + 146) + (2 * x5)) + 1).toNatClampNeg))], [.int 1, .int x4, .ref 75, .long 1, .int (x4 - 1), .ref 75], σ)) rfl ?_
                refine go_n 1 (f := (270, [some (.ref 60), some (.int x1), none, some (.int x3), some (.int x4), some (.int (x5 + 1)), some (.int (gi σ 61 ((q6 + 146) + (2 * x5)).toNatClampNeg)), some (.int (gi σ 61 (((q9 + 146) + (2 * x5)) + 1).toNatClampNeg))], [.int (x4 - 1), .ref 75, .long 1, .int (x4 - 1), .ref 75], σ)) rfl ?_
                obtain ⟨h24, hf⟩ := grd hf
                refine go_lald rfl rfl rfl h24 ?_
                refine go_n 1 (f := (272, [some (.ref 60), some (.int x1), none, some (.int x3), some (.int x4), some (.int (x5 + 1)), some (.int (gi σ 61 ((q6 + 146) + (2 * x5)).toNatClampNeg)), some (.int (gi σ 61 (((q9 + 146) + (2 * x5)) + 1).toNatClampNeg))], [.long (1 - (gl σ 75 (x4 - 1).toNatClampNeg)), .int (x4 - 1), .ref 75], σ)) rfl ?_
                obtain ⟨h25, hf⟩ := grd hf
                refine go_last rfl rfl rfl h25 ?_
                refine go_n 1 (f := (311, [some (.ref 60), some (.int x1), none, some (.int x3), some (.int x4), some (.int (x5 + 1)), some (.int (gi σ 61 ((q6 + 146) + (2 * x5)).toNatClampNeg)), some (.int (gi σ 61 (((q9 + 146) + (2 * x5)) + 1).toNatClampNeg))], [], (wl σ 75 (x4 - 1).toNatClampNeg (1 - (gl σ 75 (x4 - 1).toNatClampNeg))))) rfl ?_
                refine go_e (L1 := [some (.ref 60), some (.int x1), none, some (.int x3), some (.int x4), some (.int (x5 + 1)), none, none]) rfl rfl ?_
                exact fX7_run_J311_ok _ _ _ _ _ _ hrec11 _ hf
            · rw [if_neg h14] at hf
              refine go_if (t := 246) (f := 224) (L1 := [some (.ref 60), some (.int x1), none, some (.int x3), some (.int x4), some (.int (x5 + 1)), some (.int (gi σ 61 ((q6 + 146) + (2 * x5)).toNatClampNeg)), some (.int (gi σ 61 (((q9 + 146) + (2 * x5)) + 1).toNatClampNeg))]) (st1 := []) (σ1 := σ) rfl h14 ?_
              refine go_n 10 (f := (240, [some (.ref 60), some (.int x1), none, some (.int x3), some (.int x4), some (.int (x5 + 1)), some (.int (gi σ 61 ((q6 + 146) + (2 * x5)).toNatClampNeg)), some (.int (gi σ 61 (((q9 + 146) + (2 * x5)) + 1).toNatClampNeg))], [.int (x4 - 1), .ref 75, .int (x4 - 1), .ref 75], σ)) rfl ?_
              obtain ⟨h26, hf⟩ := grd hf
              refine go_lald rfl rfl rfl h26 ?_
              refine go_n 1 (f := (242, [some (.ref 60), some (.int x1), none, some (.int x3), some (.int x4), some (.int (x5 + 1)), some (.int (gi σ 61 ((q6 + 146) + (2 * x5)).toNatClampNeg)), some (.int (gi σ 61 (((q9 + 146) + (2 * x5)) + 1).toNatClampNeg))], [.long (-(gl σ 75 (x4 - 1).toNatClampNeg)), .int (x4 - 1), .ref 75], σ)) rfl ?_
              obtain ⟨h27, hf⟩ := grd hf
              refine go_last rfl rfl rfl h27 ?_
              refine go_n 1 (f := (311, [some (.ref 60), some (.int x1), none, some (.int x3), some (.int x4), some (.int (x5 + 1)), some (.int (gi σ 61 ((q6 + 146) + (2 * x5)).toNatClampNeg)), some (.int (gi σ 61 (((q9 + 146) + (2 * x5)) + 1).toNatClampNeg))], [], (wl σ 75 (x4 - 1).toNatClampNeg (-(gl σ 75 (x4 - 1).toNatClampNeg))))) rfl ?_
              refine go_e (L1 := [some (.ref 60), some (.int x1), none, some (.int x3), some (.int x4), some (.int (x5 + 1)), none, none]) rfl rfl ?_
              exact fX7_run_J311_ok _ _ _ _ _ _ hrec11 _ hf
          · rw [if_neg h13] at hf
            refine go_if (t := 217) (f := 143) (L1 := [some (.ref 60), some (.int x1), none, some (.int x3), some (.int x4), some (.int (x5 + 1)), some (.int (gi σ 61 ((q6 + 146) + (2 * x5)).toNatClampNeg)), some (.int (gi σ 61 (((q9 + 146) + (2 * x5)) + 1).toNatClampNeg))]) (st1 := []) (σ1 := σ) rfl h13 ?_
            refine go_n 10 (f := (161, [some (.ref 60), some (.int x1), none, some (.int x3), some (.int (x4 + (-1))), some (.int (x5 + 1)), some (.int (gi σ 61 ((q6 + 146) + (2 * x5)).toNatClampNeg)), some (.int (gi σ 61 (((q9 + 146) + (2 * x5)) + 1).toNatClampNeg))], [.ref 75, .int (gi σ 61 ((q6 + 146) + (2 * x5)).toNatClampNeg), .ref 60, .int ((x4 + (-1)) - 1), .ref 75], σ)) rfl ?_
            refine go_n 3 (f := (165, [some (.ref 60), some (.int x1), none, some (.int x3), some (.int (x4 + (-1))), some (.int (x5 + 1)), some (.int (gi σ 61 ((q6 + 146) + (2 * x5)).toNatClampNeg)), some (.int (gi σ 61 (((q9 + 146) + (2 * x5)) + 1).toNatClampNeg))], [.int ((x4 + (-1)) - 1), .ref 75, .int (gi σ 61 ((q6 + 146) + (2 * x5)).toNatClampNeg), .ref 60, .int ((x4 + (-1)) - 1), .ref 75], σ)) rfl ?_
            obtain ⟨h28, hf⟩ := grd hf
            refine go_lald rfl rfl rfl h28 ?_
            refine go_n 3 (f := (172, [some (.ref 60), some (.int x1), none, some (.int x3), some (.int (x4 + (-1))), some (.int (x5 + 1)), some (.int (gi σ 61 ((q6 + 146) + (2 * x5)).toNatClampNeg)), some (.int (gi σ 61 (((q9 + 146) + (2 * x5)) + 1).toNatClampNeg))], [.int (x4 + (-1)), .ref 75, .long (gl σ 75 ((x4 + (-1)) - 1).toNatClampNeg), .int (gi σ 61 ((q6 + 146) + (2 * x5)).toNatClampNeg), .ref 60, .int ((x4 + (-1)) - 1), .ref 75], σ)) rfl ?_
            obtain ⟨h29, hf⟩ := grd hf
            refine go_lald rfl rfl rfl h29 ?_
            obtain ⟨q30, h31, hf⟩ := bnd hf
            refine go_c (mid := 12124) (args := [.ref 60, .int (gi σ 61 ((q6 + 146) + (2 * x5)).toNatClampNeg), .long (gl σ 75 ((x4 + (-1)) - 1).toNatClampNeg), .long (gl σ 75 (x4 + (-1)).toNatClampNeg)]) (pc := 176) (L := [some (.ref 60), some (.int x1), none, some (.int x3), some (.int (x4 + (-1))), some (.int (x5 + 1)), some (.int (gi σ 61 ((q6 + 146) + (2 * x5)).toNatClampNeg)), some (.int (gi σ 61 (((q9 + 146) + (2 * x5)) + 1).toNatClampNeg))]) (st := [.int ((x4 + (-1)) - 1), .ref 75]) (σ := σ) rfl ((fX7_reckon_ok _ _ _ _ q30 h31).deep (Nat.le_of_ble_eq_true rfl)) ?_
            obtain ⟨h32, hf⟩ := grd hf
            refine go_last rfl rfl rfl h32 ?_
            refine go_n 3 (f := (182, [some (.ref 60), some (.int x1), none, some (.int x3), some (.int (x4 + (-1))), some (.int (x5 + 1)), some (.int (gi σ 61 ((q6 + 146) + (2 * x5)).toNatClampNeg)), some (.int (gi σ 61 (((q9 + 146) + (2 * x5)) + 1).toNatClampNeg))], [.int (gi q30.2 60 36), .ref 60], (wl q30.2 75 ((x4 + (-1)) - 1).toNatClampNeg q30.1))) rfl ?_
            by_cases h33 : (gi q30.2 60 36) ≠ 0
            · rw [if_pos h33] at hf
              refine go_it (t := 206) (f := 185) (L1 := [some (.ref 60), some (.int x1), none, some (.int x3), some (.int (x4 + (-1))), some (.int (x5 + 1)), some (.int (gi σ 61 ((q6 + 146) + (2 * x5)).toNatClampNeg)), some (.int (gi σ 61 (((q9 + 146) + (2 * x5)) + 1).toNatClampNeg))]) (st1 := [.ref 60]) (σ1 := (wl q30.2 75 ((x4 + (-1)) - 1).toNatClampNeg q30.1)) rfl h33 ?_
              refine go_e (L1 := [some (.ref 60), some (.int x1), none, some (.int x3), some (.int (x4 + (-1))), some (.int (x5 + 1)), none, none]) rfl rfl ?_
              exact fX7_run_J206_ok _ _ _ _ _ _ hrec11 _ hf
            · rw [if_neg h33] at hf
              refine go_if (t := 206) (f := 185) (L1 := [some (.ref 60), some (.int x1), none, some (.int x3), some (.int (x4 + (-1))), some (.int (x5 + 1)), some (.int (gi σ 61 ((q6 + 146) + (2 * x5)).toNatClampNeg)), some (.int (gi σ 61 (((q9 + 146) + (2 * x5)) + 1).toNatClampNeg))]) (st1 := [.ref 60]) (σ1 := (wl q30.2 75 ((x4 + (-1)) - 1).toNatClampNeg q30.1)) rfl h33 ?_
              refine go_n 5 (f := (193, [some (.ref 60), some (.int x1), none, some (.int x3), some (.int (x4 + (-1))), some (.int (x5 + 1)), some (.int (gi σ 61 ((q6 + 146) + (2 * x5)).toNatClampNeg)), some (.int (gi σ 61 (((q9 + 146) + (2 * x5)) + 1).toNatClampNeg))], [.int ((x4 + (-1)) - 1), .ref 75, .ref 60], (wl q30.2 75 ((x4 + (-1)) - 1).toNatClampNeg q30.1))) rfl ?_
              obtain ⟨h35, hf⟩ := grd hf
              refine go_lald rfl rfl rfl h35 ?_
              refine go_n 2 (f := (200, [some (.ref 60), some (.int x1), none, some (.int x3), some (.int (x4 + (-1))), some (.int (x5 + 1)), some (.int (gi σ 61 ((q6 + 146) + (2 * x5)).toNatClampNeg)), some (.int (gi σ 61 (((q9 + 146) + (2 * x5)) + 1).toNatClampNeg))], [.long 1000000, .long (-1000000), .long (gl (wl q30.2 75 ((x4 + (-1)) - 1).toNatClampNeg q30.1) 75 ((x4 + (-1)) - 1).toNatClampNeg), .ref 60], (wl q30.2 75 ((x4 + (-1)) - 1).toNatClampNeg q30.1))) rfl ?_
              obtain ⟨q36, h37, hf⟩ := bnd hf
              refine go_c (mid := 12034) (args := [.long (gl (wl q30.2 75 ((x4 + (-1)) - 1).toNatClampNeg q30.1) 75 ((x4 + (-1)) - 1).toNatClampNeg), .long (-1000000), .long 1000000]) (pc := 203) (L := [some (.ref 60), some (.int x1), none, some (.int x3), some (.int (x4 + (-1))), some (.int (x5 + 1)), some (.int (gi σ 61 ((q6 + 146) + (2 * x5)).toNatClampNeg)), some (.int (gi σ 61 (((q9 + 146) + (2 * x5)) + 1).toNatClampNeg))]) (st := [.ref 60]) (σ := (wl q30.2 75 ((x4 + (-1)) - 1).toNatClampNeg q30.1)) rfl ((fX7_in_ok _ _ _ _ q36 h37).deep (Nat.le_of_ble_eq_true rfl)) ?_
              refine go_m (f := (211, [some (.ref 60), some (.int x1), none, some (.int x3), some (.int (x4 + (-1))), some (.int (x5 + 1)), none, none], [.int ((if q36 ≠ 0 then 0 else 1) : Int32), .ref 60], (wl q30.2 75 ((x4 + (-1)) - 1).toNatClampNeg q30.1))) ?_ (fun hJ40 => ?_)
              · generalize hz39 : ((if q36 ≠ 0 then 0 else 1) : Int32) = z39 at hf ⊢
                have oz39 : am_ok 3 z39 = true := hz39 ▸ (okb rfl rfl)
                try dsimp only at hf
                refine go_puti rfl rfl rfl rfl rfl oz39 rfl ?_
                refine go_n 1 (f := (311, [some (.ref 60), some (.int x1), none, some (.int x3), some (.int (x4 + (-1))), some (.int (x5 + 1)), none, none], [], (wi (wl q30.2 75 ((x4 + (-1)) - 1).toNatClampNeg q30.1) 60 36 z39))) rfl ?_
                exact fX7_run_J311_ok _ _ _ _ _ _ hrec11 _ hf
              · by_cases h38 : q36 ≠ 0
                · refine go_it (t := 210) (f := 206) (L1 := [some (.ref 60), some (.int x1), none, some (.int x3), some (.int (x4 + (-1))), some (.int (x5 + 1)), some (.int (gi σ 61 ((q6 + 146) + (2 * x5)).toNatClampNeg)), some (.int (gi σ 61 (((q9 + 146) + (2 * x5)) + 1).toNatClampNeg))]) (st1 := [.ref 60]) (σ1 := (wl q30.2 75 ((x4 + (-1)) - 1).toNatClampNeg q30.1)) rfl h38 ?_
                  refine go_n 1 (f := (211, [some (.ref 60), some (.int x1), none, some (.int x3), some (.int (x4 + (-1))), some (.int (x5 + 1)), some (.int (gi σ 61 ((q6 + 146) + (2 * x5)).toNatClampNeg)), some (.int (gi σ 61 (((q9 + 146) + (2 * x5)) + 1).toNatClampNeg))], [.int 0, .ref 60], (wl q30.2 75 ((x4 + (-1)) - 1).toNatClampNeg q30.1))) rfl ?_
                  refine go_e (L1 := [some (.ref 60), some (.int x1), none, some (.int x3), some (.int (x4 + (-1))), some (.int (x5 + 1)), none, none]) rfl rfl ?_
                  simp only [if_pos h38] at hJ40
                  first | exact hJ40 | (simp only [if_pos h38]; exact hJ40)
                · refine go_if (t := 210) (f := 206) (L1 := [some (.ref 60), some (.int x1), none, some (.int x3), some (.int (x4 + (-1))), some (.int (x5 + 1)), some (.int (gi σ 61 ((q6 + 146) + (2 * x5)).toNatClampNeg)), some (.int (gi σ 61 (((q9 + 146) + (2 * x5)) + 1).toNatClampNeg))]) (st1 := [.ref 60]) (σ1 := (wl q30.2 75 ((x4 + (-1)) - 1).toNatClampNeg q30.1)) rfl h38 ?_
                  refine go_e (L1 := [some (.ref 60), some (.int x1), none, some (.int x3), some (.int (x4 + (-1))), some (.int (x5 + 1)), none, none]) rfl rfl ?_
                  refine go_n 2 (f := (211, [some (.ref 60), some (.int x1), none, some (.int x3), some (.int (x4 + (-1))), some (.int (x5 + 1)), none, none], [.int 1, .ref 60], (wl q30.2 75 ((x4 + (-1)) - 1).toNatClampNeg q30.1))) rfl ?_
                  refine go_e (L1 := [some (.ref 60), some (.int x1), none, some (.int x3), some (.int (x4 + (-1))), some (.int (x5 + 1)), none, none]) rfl rfl ?_
                  simp only [if_neg h38] at hJ40
                  first | exact hJ40 | (simp only [if_neg h38]; exact hJ40)
        · rw [if_neg h12] at hf
          refine go_if (t := 136) (f := 76) (L1 := [some (.ref 60), some (.int x1), none, some (.int x3), some (.int x4), some (.int (x5 + 1)), some (.int (gi σ 61 ((q6 + 146) + (2 * x5)).toNatClampNeg)), some (.int (gi σ 61 (((q9 + 146) + (2 * x5)) + 1).toNatClampNeg))]) (st1 := []) (σ1 := σ) rfl h12 ?_
          refine go_n 4 (f := (84, [some (.ref 60), some (.int x1), none, some (.int x3), some (.int x4), some (.int (x5 + 1)), some (.int (gi σ 61 ((q6 + 146) + (2 * x5)).toNatClampNeg)), some (.int (gi σ 61 (((q9 + 146) + (2 * x5)) + 1).toNatClampNeg))], [.int (gi σ 61 ((q6 + 146) + (2 * x5)).toNatClampNeg), .int x4, .ref 75], σ)) rfl ?_
          by_cases h41 : (gi σ 61 ((q6 + 146) + (2 * x5)).toNatClampNeg) ≠ 0
          · rw [if_pos h41] at hf
            refine go_it (t := 93) (f := 87) (L1 := [some (.ref 60), some (.int x1), none, some (.int x3), some (.int x4), some (.int (x5 + 1)), some (.int (gi σ 61 ((q6 + 146) + (2 * x5)).toNatClampNeg)), some (.int (gi σ 61 (((q9 + 146) + (2 * x5)) + 1).toNatClampNeg))]) (st1 := [.int x4, .ref 75]) (σ1 := σ) rfl h41 ?_
            refine go_n 3 (f := (99, [some (.ref 60), some (.int x1), none, some (.int x3), some (.int x4), some (.int (x5 + 1)), some (.int (gi σ 61 ((q6 + 146) + (2 * x5)).toNatClampNeg)), some (.int (gi σ 61 (((q9 + 146) + (2 * x5)) + 1).toNatClampNeg))], [.int (gi σ 61 ((q6 + 146) + (2 * x5)).toNatClampNeg), .ref 74, .int x4, .ref 75], σ)) rfl ?_
            obtain ⟨h42, hf⟩ := grd hf
            refine go_iald rfl rfl rfl h42 ?_
            refine go_n 1 (f := (101, [some (.ref 60), some (.int x1), none, some (.int x3), some (.int x4), some (.int (x5 + 1)), some (.int (gi σ 61 ((q6 + 146) + (2 * x5)).toNatClampNeg)), some (.int (gi σ 61 (((q9 + 146) + (2 * x5)) + 1).toNatClampNeg))], [.long (gi σ 74 (gi σ 61 ((q6 + 146) + (2 * x5)).toNatClampNeg).toNatClampNeg).toInt64, .int x4, .ref 75], σ)) rfl ?_
            refine go_e (L1 := [some (.ref 60), some (.int x1), none, some (.int x3), some (.int x4), some (.int (x5 + 1)), none, none]) rfl rfl ?_
            exact fX7_run_J101_ok _ _ _ _ _ _ _ _ hrec11 _ hf
          · rw [if_neg h41] at hf
            refine go_if (t := 93) (f := 87) (L1 := [some (.ref 60), some (.int x1), none, some (.int x3), some (.int x4), some (.int (x5 + 1)), some (.int (gi σ 61 ((q6 + 146) + (2 * x5)).toNatClampNeg)), some (.int (gi σ 61 (((q9 + 146) + (2 * x5)) + 1).toNatClampNeg))]) (st1 := [.int x4, .ref 75]) (σ1 := σ) rfl h41 ?_
            refine go_n 3 (f := (101, [some (.ref 60), some (.int x1), none, some (.int x3), some (.int x4), some (.int (x5 + 1)), some (.int (gi σ 61 ((q6 + 146) + (2 * x5)).toNatClampNeg)), some (.int (gi σ 61 (((q9 + 146) + (2 * x5)) + 1).toNatClampNeg))], [.long (gi σ 61 (((q9 + 146) + (2 * x5)) + 1).toNatClampNeg).toInt64, .int x4, .ref 75], σ)) rfl ?_
            refine go_e (L1 := [some (.ref 60), some (.int x1), none, some (.int x3), some (.int x4), some (.int (x5 + 1)), none, none]) rfl rfl ?_
            exact fX7_run_J101_ok _ _ _ _ _ _ _ _ hrec11 _ hf
def fX7_run (x1 : Int32) (x2 : Int32) (x3 : Int32) (σ : Sg) : Option Sg :=
  lp (fX7_run_L11 x1 x3 ) N0 (0, x2, (wi σ 60 36 0))
set_option maxHeartbeats 1500000 in
theorem fX7_run_ok (x1 : Int32) (x2 : Int32) (x3 : Int32) (σ : Sg) (r : Sg) (hf : fX7_run x1 x2 x3 σ = some r) : Cl true 1 12123 [.ref 60, .int x1, .int x2, .int x3] σ (.inl none, r) := by
  refine ⟨iX7_run, rfl, Nat.le_of_ble_eq_true rfl, Nat.le_of_ble_eq_true rfl, ?_⟩
  show Go true 1 iX7_run (0, [some (.ref 60), some (.int x1), some (.int x2), some (.int x3), none, none, none, none], [], σ) (.inl none, r)
  unfold fX7_run at hf
  refine go_n 5 (f := (8, [some (.ref 60), some (.int x1), some (.int x2), some (.int x3), some (.int 0), none, none, none], [], (wi σ 60 36 0))) rfl ?_
  refine go_n 2 (f := (11, [some (.ref 60), some (.int x1), some (.int x2), some (.int x3), some (.int 0), some (.int x2), none, none], [], (wi σ 60 36 0))) rfl ?_
  refine go_e (L1 := [some (.ref 60), some (.int x1), none, some (.int x3), some (.int 0), some (.int x2), none, none]) rfl rfl ?_
  exact fX7_run_L11_ok _ _   N0 _ _ _ _ hf
