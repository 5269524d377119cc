set_option maxRecDepth 100000
/-! OldWeather$Reader.term()LOldWeather$Sum; -/
def fX15_term_J23 (RP : Nat → Sg → Option ((Nat ⊕ (Nat × Nat)) × Sg)) (x0 : Nat) (x1 : Nat) (rec5 : (Nat × Sg) → Option ((Nat ⊕ (Nat × Nat)) × Sg)) (σ : Sg) : Option ((Nat ⊕ (Nat × Nat)) × Sg) :=
  if [23].elem (kk σ x0) = true then (match (rf σ x0 0) with
  | some a11 => if [23].elem (kk σ x0) = true then if (kk σ a11) = 3 then if inb (gi σ x0 3) (kn σ a11) then if (kk σ x0) = 23 then (fX15_next x0 σ).bind fun q18 => (am_new q18 (30, 0) 3).bind fun σ21 => if (kk σ21 x0) = 23 then ((RP x0 σ21).bind fun q23 => match q23 with
  | (.inl v25, τ26) => (fX22_init (gz q18) ((gi σ a11 (gi σ x0 3).toNatClampNeg).toUInt32 % 65536).toInt32 x1 v25 τ26).bind fun q28 => rec5 ((gz q18), q28)
  | (.inr e27, τ26) => some (.inr e27, τ26)) else none else none else none else none else none
  | none => none) else none
set_option maxHeartbeats 1500000 in
theorem fX15_term_J23_ok (RP : Nat → Sg → Option ((Nat ⊕ (Nat × Nat)) × Sg)) (d : Nat) (hRP : ∀ (x0 : Nat) (σ : Sg) (r : (Nat ⊕ (Nat × Nat)) × Sg), RP x0 σ = some r → Cl true d 6924 [.ref x0] σ (am_outR r)) (x0 : Nat) (x1 : Nat) (rec5 : (Nat × Sg) → Option ((Nat ⊕ (Nat × Nat)) × Sg)) (σ : Sg) (hrec5 : ∀ (y1 : Nat) (τ : Sg) (r : ((Nat ⊕ (Nat × Nat)) × Sg)), rec5 (y1, τ) = some r → Go true (d + 2) iX15_term (5, [some (.ref x0), some (.ref y1), none], [], τ) (am_outR r)) (r : ((Nat ⊕ (Nat × Nat)) × Sg)) (hf : fX15_term_J23 RP x0 x1 rec5 σ = some r) : Go true (d + 2) iX15_term (23, [some (.ref x0), some (.ref x1), none], [], σ) (am_outR r) := by
  unfold fX15_term_J23 at hf
  refine go_n 1 (f := (24, [some (.ref x0), some (.ref x1), none], [.ref x0], σ)) rfl ?_
  obtain ⟨h12, hf⟩ := grd hf
  refine go_get rfl rfl rfl h12 ?_
  show Go true (d + 2) iX15_term (27, [some (.ref x0), some (.ref x1), none], va_rf (rf σ x0 0) :: [], σ) _
  generalize hR13 : (rf σ x0 0) = h30 at hf ⊢
  cases h30 with
  | none =>
    cases hf
  | some a11 =>
    refine go_n 1 (f := (28, [some (.ref x0), some (.ref x1), none], [.ref x0, .ref a11], σ)) rfl ?_
    obtain ⟨h14, hf⟩ := grd hf
    refine go_get rfl rfl rfl h14 ?_
    obtain ⟨h15, hf⟩ := grd hf
    obtain ⟨h16, hf⟩ := grd hf
    refine go_bald rfl rfl (Or.inl h15) h16 ?_
    refine go_n 3 (f := (35, [some (.ref x0), some (.ref x1), some (.int ((gi σ a11 (gi σ x0 3).toNatClampNeg).toUInt32 % 65536).toInt32)], [.ref x0], σ)) rfl ?_
    obtain ⟨h17, hf⟩ := grd hf
    obtain ⟨q18, h19, hf⟩ := bnd hf
    refine go_c (mid := 6914) (args := [.ref x0]) (pc := 38) (L := [some (.ref x0), some (.ref x1), some (.int ((gi σ a11 (gi σ x0 3).toNatClampNeg).toUInt32 % 65536).toInt32)]) (st := []) (σ := σ) (stp_callV1 (n := 1) rfl rfl rfl ⟨Nat.le_of_ble_eq_true rfl, Nat.le_of_ble_eq_true rfl⟩ rfl h17 rfl) ((fX15_next_ok _ _ q18 h19).deep (by omega)) ?_
    obtain ⟨σ21, h20, hf⟩ := bnd hf
    refine go_new rfl rfl rfl h20 ?_
    refine go_n 4 (f := (45, [some (.ref x0), some (.ref x1), some (.int ((gi σ a11 (gi σ x0 3).toNatClampNeg).toUInt32 % 65536).toInt32)], [.ref x0, .ref x1, .int ((gi σ a11 (gi σ x0 3).toNatClampNeg).toUInt32 % 65536).toInt32, .ref (gz q18), .ref (gz q18)], σ21)) rfl ?_
    obtain ⟨h22, hf⟩ := grd hf
    obtain ⟨⟨v25 | e27, τ26⟩, h24, hf⟩ := bnd hf
    · try dsimp only at hf
      refine go_c (mid := 6924) (args := [.ref x0]) (pc := 48) (L := [some (.ref x0), some (.ref x1), some (.int ((gi σ a11 (gi σ x0 3).toNatClampNeg).toUInt32 % 65536).toInt32)]) (st := [.ref x1, .int ((gi σ a11 (gi σ x0 3).toNatClampNeg).toUInt32 % 65536).toInt32, .ref (gz q18), .ref (gz q18)]) (σ := σ21) (stp_callV1 (n := 1) rfl rfl rfl ⟨Nat.le_of_ble_eq_true rfl, Nat.le_of_ble_eq_true rfl⟩ rfl h22 rfl) ((hRP _ _ _ h24).deep (by omega)) ?_
      obtain ⟨q28, h29, hf⟩ := bnd hf
      refine go_c (mid := 8960) (args := [.ref (gz q18), .int ((gi σ a11 (gi σ x0 3).toNatClampNeg).toUInt32 % 65536).toInt32, .ref x1, .ref v25]) (pc := 51) (L := [some (.ref x0), some (.ref x1), some (.int ((gi σ a11 (gi σ x0 3).toNatClampNeg).toUInt32 % 65536).toInt32)]) (st := [.ref (gz q18)]) (σ := τ26) rfl ((fX22_init_ok _ _ _ _ _ q28 h29).deep (by omega)) ?_
      refine go_n 2 (f := (5, [some (.ref x0), some (.ref (gz q18)), some (.int ((gi σ a11 (gi σ x0 3).toNatClampNeg).toUInt32 % 65536).toInt32)], [], q28)) rfl ?_
      refine go_e (L1 := [some (.ref x0), some (.ref (gz q18)), none]) rfl rfl ?_
      exact hrec5 _ _ _ hf
    · try dsimp only at hf
      cases hf
      obtain ⟨ec, ea⟩ := e27
      exact go_ct (mid := 6924) (args := [.ref x0]) (pc := 48) (L := [some (.ref x0), some (.ref x1), some (.int ((gi σ a11 (gi σ x0 3).toNatClampNeg).toUInt32 % 65536).toInt32)]) (st := [.ref x1, .int ((gi σ a11 (gi σ x0 3).toNatClampNeg).toUInt32 % 65536).toInt32, .ref (gz q18), .ref (gz q18)]) (σ := σ21) (stp_callV1 (n := 1) rfl rfl rfl ⟨Nat.le_of_ble_eq_true rfl, Nat.le_of_ble_eq_true rfl⟩ rfl h22 rfl) ((hRP _ _ _ h24).deep (by omega)) rfl
def fX15_term_L5 (RP : Nat → Sg → Option ((Nat ⊕ (Nat × Nat)) × Sg)) (x0 : Nat)  (rec5 : (Nat × Sg) → Option ((Nat ⊕ (Nat × Nat)) × Sg)) (s : Nat × Sg) : Option ((Nat ⊕ (Nat × Nat)) × Sg) :=
  match s with
  | (x1, σ) => if (kk σ x0) = 23 then (fX15_is x0 1000015 σ).bind fun q8 => if q8 ≠ 0 then fX15_term_J23 RP x0 x1 rec5 σ else if (kk σ x0) = 23 then (fX15_is x0 1000016 σ).bind fun q32 => if q32 = 0 then some (.inl x1, σ) else fX15_term_J23 RP x0 x1 rec5 σ else none else none
set_option maxHeartbeats 1500000 in
theorem fX15_term_L5_ok (RP : Nat → Sg → Option ((Nat ⊕ (Nat × Nat)) × Sg)) (d : Nat) (hRP : ∀ (x0 : Nat) (σ : Sg) (r : (Nat ⊕ (Nat × Nat)) × Sg), RP x0 σ = some r → Cl true d 6924 [.ref x0] σ (am_outR r)) (x0 : Nat)   : ∀ (n : Nat) (x1 : Nat) (σ : Sg) (r : ((Nat ⊕ (Nat × Nat)) × Sg)), lp (fX15_term_L5 RP x0 ) n (x1, σ) = some r → Go true (d + 2) iX15_term (5, [some (.ref x0), some (.ref x1), none], [], σ) (am_outR r) := by
  intro n
  induction n with
  | zero => intro x1 σ r hf; cases hf
  | succ n ih =>
    intro x1 σ r hf
    have hf : fX15_term_L5 RP x0  (lp (fX15_term_L5 RP x0 ) n) (x1, σ) = some r := hf
    have hrec5 := ih
    generalize lp (fX15_term_L5 RP x0 ) n = rec5 at hf hrec5
    unfold fX15_term_L5 at hf
    dsimp only at hf
    refine go_n 2 (f := (8, [some (.ref x0), some (.ref x1), none], [.ref 1000015, .ref x0], σ)) rfl ?_
    obtain ⟨h7, hf⟩ := grd hf
    obtain ⟨q8, h9, hf⟩ := bnd hf
    refine go_c (mid := 6918) (args := [.ref x0, .ref 1000015]) (pc := 11) (L := [some (.ref x0), some (.ref x1), none]) (st := []) (σ := σ) (stp_callV1 (n := 2) rfl rfl rfl ⟨Nat.le_of_ble_eq_true rfl, Nat.le_of_ble_eq_true rfl⟩ rfl h7 rfl) ((fX15_is_ok _ _ _ q8 h9).deep (by omega)) ?_
    by_cases h10 : q8 ≠ 0
    · rw [if_pos h10] at hf
      refine go_it (t := 23) (f := 14) (L1 := [some (.ref x0), some (.ref x1), none]) (st1 := []) (σ1 := σ) rfl h10 ?_
      exact fX15_term_J23_ok _ _ hRP _ _ _ _ hrec5 _ hf
    · rw [if_neg h10] at hf
      refine go_if (t := 23) (f := 14) (L1 := [some (.ref x0), some (.ref x1), none]) (st1 := []) (σ1 := σ) rfl h10 ?_
      refine go_n 2 (f := (17, [some (.ref x0), some (.ref x1), none], [.ref 1000016, .ref x0], σ)) rfl ?_
      obtain ⟨h31, hf⟩ := grd hf
      obtain ⟨q32, h33, hf⟩ := bnd hf
      refine go_c (mid := 6918) (args := [.ref x0, .ref 1000016]) (pc := 20) (L := [some (.ref x0), some (.ref x1), none]) (st := []) (σ := σ) (stp_callV1 (n := 2) rfl rfl rfl ⟨Nat.le_of_ble_eq_true rfl, Nat.le_of_ble_eq_true rfl⟩ rfl h31 rfl) ((fX15_is_ok _ _ _ q32 h33).deep (by omega)) ?_
      by_cases h34 : q32 = 0
      · rw [if_pos h34] at hf
        refine go_it (t := 55) (f := 23) (L1 := [some (.ref x0), some (.ref x1), none]) (st1 := []) (σ1 := σ) rfl h34 ?_
        refine go_n 1 (f := (56, [some (.ref x0), some (.ref x1), none], [.ref x1], σ)) rfl ?_
        cases hf
        exact go_r rfl
      · rw [if_neg h34] at hf
        refine go_if (t := 55) (f := 23) (L1 := [some (.ref x0), some (.ref x1), none]) (st1 := []) (σ1 := σ) rfl h34 ?_
        exact fX15_term_J23_ok _ _ hRP _ _ _ _ hrec5 _ hf
def fX15_term (RP : Nat → Sg → Option ((Nat ⊕ (Nat × Nat)) × Sg)) (x0 : Nat) (σ : Sg) : Option ((Nat ⊕ (Nat × Nat)) × Sg) :=
  if (kk σ x0) = 23 then ((RP x0 σ).bind fun q2 => match q2 with
  | (.inl v4, τ5) => lp (fX15_term_L5 RP x0 ) N0 (v4, τ5)
  | (.inr e6, τ5) => some (.inr e6, τ5)) else none
set_option maxHeartbeats 1500000 in
theorem fX15_term_ok (RP : Nat → Sg → Option ((Nat ⊕ (Nat × Nat)) × Sg)) (d : Nat) (hRP : ∀ (x0 : Nat) (σ : Sg) (r : (Nat ⊕ (Nat × Nat)) × Sg), RP x0 σ = some r → Cl true d 6924 [.ref x0] σ (am_outR r)) (x0 : Nat) (σ : Sg) (r : ((Nat ⊕ (Nat × Nat)) × Sg)) (hf : fX15_term RP x0 σ = some r) : Cl true (d + 2) 6923 [.ref x0] σ (am_outR r) := by
  refine ⟨iX15_term, rfl, Nat.le_of_ble_eq_true rfl, Nat.le_of_ble_eq_true rfl, ?_⟩
  show Go true (d + 2) iX15_term (0, [some (.ref x0), none, none], [], σ) (am_outR r)
  unfold fX15_term at hf
  refine go_n 1 (f := (1, [some (.ref x0), none, none], [.ref x0], σ)) rfl ?_
  obtain ⟨h1, hf⟩ := grd hf
  obtain ⟨⟨v4 | e6, τ5⟩, h3, hf⟩ := bnd hf
  · try dsimp only at hf
    refine go_c (mid := 6924) (args := [.ref x0]) (pc := 4) (L := [some (.ref x0), none, none]) (st := []) (σ := σ) (stp_callV1 (n := 1) rfl rfl rfl ⟨Nat.le_of_ble_eq_true rfl, Nat.le_of_ble_eq_true rfl⟩ rfl h1 rfl) ((hRP _ _ _ h3).deep (by omega)) ?_
    refine go_n 1 (f := (5, [some (.ref x0), some (.ref v4), none], [], τ5)) rfl ?_
    exact fX15_term_L5_ok _ _ hRP _   N0 _ _ _ hf
  · try dsimp only at hf
    cases hf
    obtain ⟨ec, ea⟩ := e6
    exact go_ct (mid := 6924) (args := [.ref x0]) (pc := 4) (L := [some (.ref x0), none, none]) (st := []) (σ := σ) (stp_callV1 (n := 1) rfl rfl rfl ⟨Nat.le_of_ble_eq_true rfl, Nat.le_of_ble_eq_true rfl⟩ rfl h1 rfl) ((hRP _ _ _ h3).deep (by omega)) rfl
/-! OldWeather$Reader.sum()LOldWeather$Sum; -/
def fX15_sum_J23 (RP : Nat → Sg → Option ((Nat ⊕ (Nat × Nat)) × Sg)) (x0 : Nat) (x1 : Nat) (rec5 : (Nat × Sg) → Option ((Nat ⊕ (Nat × Nat)) × Sg)) (σ : Sg) : Option ((Nat ⊕ (Nat × Nat)) × Sg) :=
  if [23].elem (kk σ x0) = true then (match (rf σ x0 0) with
  | some a11 => if [23].elem (kk σ x0) = true then if (kk σ a11) = 3 then if inb (gi σ x0 3) (kn σ a11) then if (kk σ x0) = 23 then (fX15_next x0 σ).bind fun q18 => (am_new q18 (30, 0) 3).bind fun σ21 => if (kk σ21 x0) = 23 then ((fX15_term RP x0 σ21).bind fun q23 => match q23 with
  | (.inl v25, τ26) => (fX22_init (gz q18) ((gi σ a11 (gi σ x0 3).toNatClampNeg).toUInt32 % 65536).toInt32 x1 v25 τ26).bind fun q28 => rec5 ((gz q18), q28)
  | (.inr e27, τ26) => some (.inr e27, τ26)) else none else none else none else none else none
  | none => none) else none
set_option maxHeartbeats 1500000 in
theorem fX15_sum_J23_ok (RP : Nat → Sg → Option ((Nat ⊕ (Nat × Nat)) × Sg)) (d : Nat) (hRP : ∀ (x0 : Nat) (σ : Sg) (r : (Nat ⊕ (Nat × Nat)) × Sg), RP x0 σ = some r → Cl true d 6924 [.ref x0] σ (am_outR r)) (x0 : Nat) (x1 : Nat) (rec5 : (Nat × Sg) → Option ((Nat ⊕ (Nat × Nat)) × Sg)) (σ : Sg) (hrec5 : ∀ (y1 : Nat) (τ : Sg) (r : ((Nat ⊕ (Nat × Nat)) × Sg)), rec5 (y1, τ) = some r → Go true (d + 3) iX15_sum (5, [some (.ref x0), some (.ref y1), none], [], τ) (am_outR r)) (r : ((Nat ⊕ (Nat × Nat)) × Sg)) (hf : fX15_sum_J23 RP x0 x1 rec5 σ = some r) : Go true (d + 3) iX15_sum (23, [some (.ref x0), some (.ref x1), none], [], σ) (am_outR r) := by
  unfold fX15_sum_J23 at hf
  refine go_n 1 (f := (24, [some (.ref x0), some (.ref x1), none], [.ref x0], σ)) rfl ?_
  obtain ⟨h12, hf⟩ := grd hf
  refine go_get rfl rfl rfl h12 ?_
  show Go true (d + 3) iX15_sum (27, [some (.ref x0), some (.ref x1), none], va_rf (rf σ x0 0) :: [], σ) _
  generalize hR13 : (rf σ x0 0) = h30 at hf ⊢
  cases h30 with
  | none =>
    cases hf
  | some a11 =>
    refine go_n 1 (f := (28, [some (.ref x0), some (.ref x1), none], [.ref x0, .ref a11], σ)) rfl ?_
    obtain ⟨h14, hf⟩ := grd hf
    refine go_get rfl rfl rfl h14 ?_
    obtain ⟨h15, hf⟩ := grd hf
    obtain ⟨h16, hf⟩ := grd hf
    refine go_bald rfl rfl (Or.inl h15) h16 ?_
    refine go_n 3 (f := (35, [some (.ref x0), some (.ref x1), some (.int ((gi σ a11 (gi σ x0 3).toNatClampNeg).toUInt32 % 65536).toInt32)], [.ref x0], σ)) rfl ?_
    obtain ⟨h17, hf⟩ := grd hf
    obtain ⟨q18, h19, hf⟩ := bnd hf
    refine go_c (mid := 6914) (args := [.ref x0]) (pc := 38) (L := [some (.ref x0), some (.ref x1), some (.int ((gi σ a11 (gi σ x0 3).toNatClampNeg).toUInt32 % 65536).toInt32)]) (st := []) (σ := σ) (stp_callV1 (n := 1) rfl rfl rfl ⟨Nat.le_of_ble_eq_true rfl, Nat.le_of_ble_eq_true rfl⟩ rfl h17 rfl) ((fX15_next_ok _ _ q18 h19).deep (by omega)) ?_
    obtain ⟨σ21, h20, hf⟩ := bnd hf
    refine go_new rfl rfl rfl h20 ?_
    refine go_n 4 (f := (45, [some (.ref x0), some (.ref x1), some (.int ((gi σ a11 (gi σ x0 3).toNatClampNeg).toUInt32 % 65536).toInt32)], [.ref x0, .ref x1, .int ((gi σ a11 (gi σ x0 3).toNatClampNeg).toUInt32 % 65536).toInt32, .ref (gz q18), .ref (gz q18)], σ21)) rfl ?_
    obtain ⟨h22, hf⟩ := grd hf
    obtain ⟨⟨v25 | e27, τ26⟩, h24, hf⟩ := bnd hf
    · try dsimp only at hf
      refine go_c (mid := 6923) (args := [.ref x0]) (pc := 48) (L := [some (.ref x0), some (.ref x1), some (.int ((gi σ a11 (gi σ x0 3).toNatClampNeg).toUInt32 % 65536).toInt32)]) (st := [.ref x1, .int ((gi σ a11 (gi σ x0 3).toNatClampNeg).toUInt32 % 65536).toInt32, .ref (gz q18), .ref (gz q18)]) (σ := σ21) (stp_callV1 (n := 1) rfl rfl rfl ⟨Nat.le_of_ble_eq_true rfl, Nat.le_of_ble_eq_true rfl⟩ rfl h22 rfl) ((fX15_term_ok RP d hRP _ _ _ h24).deep (by omega)) ?_
      obtain ⟨q28, h29, hf⟩ := bnd hf
      refine go_c (mid := 8960) (args := [.ref (gz q18), .int ((gi σ a11 (gi σ x0 3).toNatClampNeg).toUInt32 % 65536).toInt32, .ref x1, .ref v25]) (pc := 51) (L := [some (.ref x0), some (.ref x1), some (.int ((gi σ a11 (gi σ x0 3).toNatClampNeg).toUInt32 % 65536).toInt32)]) (st := [.ref (gz q18)]) (σ := τ26) rfl ((fX22_init_ok _ _ _ _ _ q28 h29).deep (by omega)) ?_
      refine go_n 2 (f := (5, [some (.ref x0), some (.ref (gz q18)), some (.int ((gi σ a11 (gi σ x0 3).toNatClampNeg).toUInt32 % 65536).toInt32)], [], q28)) rfl ?_
      refine go_e (L1 := [some (.ref x0), some (.ref (gz q18)), none]) rfl rfl ?_
      exact hrec5 _ _ _ hf
    · try dsimp only at hf
      cases hf
      obtain ⟨ec, ea⟩ := e27
      exact go_ct (mid := 6923) (args := [.ref x0]) (pc := 48) (L := [some (.ref x0), some (.ref x1), some (.int ((gi σ a11 (gi σ x0 3).toNatClampNeg).toUInt32 % 65536).toInt32)]) (st := [.ref x1, .int ((gi σ a11 (gi σ x0 3).toNatClampNeg).toUInt32 % 65536).toInt32, .ref (gz q18), .ref (gz q18)]) (σ := σ21) (stp_callV1 (n := 1) rfl rfl rfl ⟨Nat.le_of_ble_eq_true rfl, Nat.le_of_ble_eq_true rfl⟩ rfl h22 rfl) ((fX15_term_ok RP d hRP _ _ _ h24).deep (by omega)) rfl
def fX15_sum_L5 (RP : Nat → Sg → Option ((Nat ⊕ (Nat × Nat)) × Sg)) (x0 : Nat)  (rec5 : (Nat × Sg) → Option ((Nat ⊕ (Nat × Nat)) × Sg)) (s : Nat × Sg) : Option ((Nat ⊕ (Nat × Nat)) × Sg) :=
  match s with
  | (x1, σ) => if (kk σ x0) = 23 then (fX15_is x0 1000017 σ).bind fun q8 => if q8 ≠ 0 then fX15_sum_J23 RP x0 x1 rec5 σ else if (kk σ x0) = 23 then (fX15_is x0 1000005 σ).bind fun q32 => if q32 = 0 then some (.inl x1, σ) else fX15_sum_J23 RP x0 x1 rec5 σ else none else none
set_option maxHeartbeats 1500000 in
theorem fX15_sum_L5_ok (RP : Nat → Sg → Option ((Nat ⊕ (Nat × Nat)) × Sg)) (d : Nat) (hRP : ∀ (x0 : Nat) (σ : Sg) (r : (Nat ⊕ (Nat × Nat)) × Sg), RP x0 σ = some r → Cl true d 6924 [.ref x0] σ (am_outR r)) (x0 : Nat)   : ∀ (n : Nat) (x1 : Nat) (σ : Sg) (r : ((Nat ⊕ (Nat × Nat)) × Sg)), lp (fX15_sum_L5 RP x0 ) n (x1, σ) = some r → Go true (d + 3) iX15_sum (5, [some (.ref x0), some (.ref x1), none], [], σ) (am_outR r) := by
  intro n
  induction n with
  | zero => intro x1 σ r hf; cases hf
  | succ n ih =>
    intro x1 σ r hf
    have hf : fX15_sum_L5 RP x0  (lp (fX15_sum_L5 RP x0 ) n) (x1, σ) = some r := hf
    have hrec5 := ih
    generalize lp (fX15_sum_L5 RP x0 ) n = rec5 at hf hrec5
    unfold fX15_sum_L5 at hf
    dsimp only at hf
    refine go_n 2 (f := (8, [some (.ref x0), some (.ref x1), none], [.ref 1000017, .ref x0], σ)) rfl ?_
    obtain ⟨h7, hf⟩ := grd hf
    obtain ⟨q8, h9, hf⟩ := bnd hf
    refine go_c (mid := 6918) (args := [.ref x0, .ref 1000017]) (pc := 11) (L := [some (.ref x0), some (.ref x1), none]) (st := []) (σ := σ) (stp_callV1 (n := 2) rfl rfl rfl ⟨Nat.le_of_ble_eq_true rfl, Nat.le_of_ble_eq_true rfl⟩ rfl h7 rfl) ((fX15_is_ok _ _ _ q8 h9).deep (by omega)) ?_
    by_cases h10 : q8 ≠ 0
    · rw [if_pos h10] at hf
      refine go_it (t := 23) (f := 14) (L1 := [some (.ref x0), some (.ref x1), none]) (st1 := []) (σ1 := σ) rfl h10 ?_
      exact fX15_sum_J23_ok _ _ hRP _ _ _ _ hrec5 _ hf
    · rw [if_neg h10] at hf
      refine go_if (t := 23) (f := 14) (L1 := [some (.ref x0), some (.ref x1), none]) (st1 := []) (σ1 := σ) rfl h10 ?_
      refine go_n 2 (f := (17, [some (.ref x0), some (.ref x1), none], [.ref 1000005, .ref x0], σ)) rfl ?_
      obtain ⟨h31, hf⟩ := grd hf
      obtain ⟨q32, h33, hf⟩ := bnd hf
      refine go_c (mid := 6918) (args := [.ref x0, .ref 1000005]) (pc := 20) (L := [some (.ref x0), some (.ref x1), none]) (st := []) (σ := σ) (stp_callV1 (n := 2) rfl rfl rfl ⟨Nat.le_of_ble_eq_true rfl, Nat.le_of_ble_eq_true rfl⟩ rfl h31 rfl) ((fX15_is_ok _ _ _ q32 h33).deep (by omega)) ?_
      by_cases h34 : q32 = 0
      · rw [if_pos h34] at hf
        refine go_it (t := 55) (f := 23) (L1 := [some (.ref x0), some (.ref x1), none]) (st1 := []) (σ1 := σ) rfl h34 ?_
        refine go_n 1 (f := (56, [some (.ref x0), some (.ref x1), none], [.ref x1], σ)) rfl ?_
        cases hf
        exact go_r rfl
      · rw [if_neg h34] at hf
        refine go_if (t := 55) (f := 23) (L1 := [some (.ref x0), some (.ref x1), none]) (st1 := []) (σ1 := σ) rfl h34 ?_
        exact fX15_sum_J23_ok _ _ hRP _ _ _ _ hrec5 _ hf
def fX15_sum (RP : Nat → Sg → Option ((Nat ⊕ (Nat × Nat)) × Sg)) (x0 : Nat) (σ : Sg) : Option ((Nat ⊕ (Nat × Nat)) × Sg) :=
  if (kk σ x0) = 23 then ((fX15_term RP x0 σ).bind fun q2 => match q2 with
  | (.inl v4, τ5) => lp (fX15_sum_L5 RP x0 ) N0 (v4, τ5)
  | (.inr e6, τ5) => some (.inr e6, τ5)) else none
set_option maxHeartbeats 1500000 in
theorem fX15_sum_ok (RP : Nat → Sg → Option ((Nat ⊕ (Nat × Nat)) × Sg)) (d : Nat) (hRP : ∀ (x0 : Nat) (σ : Sg) (r : (Nat ⊕ (Nat × Nat)) × Sg), RP x0 σ = some r → Cl true d 6924 [.ref x0] σ (am_outR r)) (x0 : Nat) (σ : Sg) (r : ((Nat ⊕ (Nat × Nat)) × Sg)) (hf : fX15_sum RP x0 σ = some r) : Cl true (d + 3) 6922 [.ref x0] σ (am_outR r) := by
  refine ⟨iX15_sum, rfl, Nat.le_of_ble_eq_true rfl, Nat.le_of_ble_eq_true rfl, ?_⟩
  show Go true (d + 3) iX15_sum (0, [some (.ref x0), none, none], [], σ) (am_outR r)
  unfold fX15_sum at hf
  refine go_n 1 (f := (1, [some (.ref x0), none, none], [.ref x0], σ)) rfl ?_
  obtain ⟨h1, hf⟩ := grd hf
  obtain ⟨⟨v4 | e6, τ5⟩, h3, hf⟩ := bnd hf
  · try dsimp only at hf
    refine go_c (mid := 6923) (args := [.ref x0]) (pc := 4) (L := [some (.ref x0), none, none]) (st := []) (σ := σ) (stp_callV1 (n := 1) rfl rfl rfl ⟨Nat.le_of_ble_eq_true rfl, Nat.le_of_ble_eq_true rfl⟩ rfl h1 rfl) ((fX15_term_ok RP d hRP _ _ _ h3).deep (by omega)) ?_
    refine go_n 1 (f := (5, [some (.ref x0), some (.ref v4), none], [], τ5)) rfl ?_
    exact fX15_sum_L5_ok _ _ hRP _   N0 _ _ _ hf
  · try dsimp only at hf
    cases hf
    obtain ⟨ec, ea⟩ := e6
    exact go_ct (mid := 6923) (args := [.ref x0]) (pc := 4) (L := [some (.ref x0), none, none]) (st := []) (σ := σ) (stp_callV1 (n := 1) rfl rfl rfl ⟨Nat.le_of_ble_eq_true rfl, Nat.le_of_ble_eq_true rfl⟩ rfl h1 rfl) ((fX15_term_ok RP d hRP _ _ _ h3).deep (by omega)) rfl
/-! OldWeather$Reader.part()LOldWeather$Sum; -/
def fX15_part (RP : Nat → Sg → Option ((Nat ⊕ (Nat × Nat)) × Sg)) (x0 : Nat) (σ : Sg) : Option ((Nat ⊕ (Nat × Nat)) × Sg) :=
  if (kk σ x0) = 23 then (fX15_is x0 1000005 σ).bind fun q2 => if q2 = 0 then if (kk σ x0) = 23 then (fX15_is x0 1000006 σ).bind fun q6 => if q6 = 0 then if [23].elem (kk σ x0) = true then if (kk σ x0) = 23 then (fX15_isIn x0 (gi σ x0 3) 48 57 σ).bind fun q11 => if q11 = 0 then if (kk σ x0) = 23 then (fX15_field x0 σ).bind fun q15 => if q15 ≠ (-1) then if (kk σ x0) = 23 then ((fX15_leaf x0 σ).bind fun q19 => match q19 with
  | (.inl v21, τ22) => if (kk τ22 x0) = 23 then (fX15_next x0 τ22).bind fun q25 => (am_new q25 (29, 0) 1).bind fun σ28 => (fX21_init (gz q25) q15 σ28).bind fun q29 => some (.inl (gz q25), q29) else none
  | (.inr e23, τ22) => some (.inr e23, τ22)) else none else (am_new σ (24, 0) 7).bind fun σ32 => if [23].elem (kk σ32 x0) = true then (fX16_init (gz σ) (gi σ32 x0 3) σ32).bind fun q34 => if (kk q34 (gz σ)) = 24 then some (.inr (1, (gz σ)), q34) else none else none else none else if (kk σ x0) = 23 then ((fX15_leaf x0 σ).bind fun q38 => match q38 with
  | (.inl v40, τ41) => (am_new τ41 (28, 0) 1).bind fun σ44 => if (kk σ44 x0) = 23 then ((fX15_number x0 0 10000 σ44).bind fun q46 => match q46 with
  | (.inl v48, τ49) => (fX20_init (gz τ41) v48 τ49).bind fun q51 => some (.inl (gz τ41), q51)
  | (.inr e50, τ49) => some (.inr e50, τ49)) else none
  | (.inr e42, τ41) => some (.inr e42, τ41)) else none else none else none else if (kk σ x0) = 23 then ((fX15_opens x0 σ).bind fun q54 => match q54 with
  | (.inl v56, τ57) => if (kk τ57 x0) = 23 then ((fX15_sum RP x0 τ57).bind fun q60 => match q60 with
  | (.inl v62, τ63) => if (kk τ63 x0) = 23 then ((fX15_need x0 1000007 τ63).bind fun q66 => match q66 with
  | (.inl v68, τ69) => if [23].elem (kk τ69 x0) = true then if [23].elem (kk τ69 x0) = true then some (.inl v62, (wi τ69 x0 6 ((gi τ69 x0 6) - 1))) else none else none
  | (.inr e70, τ69) => some (.inr e70, τ69)) else none
  | (.inr e64, τ63) => some (.inr e64, τ63)) else none
  | (.inr e58, τ57) => some (.inr e58, τ57)) else none else none else if (kk σ x0) = 23 then ((fX15_opens x0 σ).bind fun q74 => match q74 with
  | (.inl v76, τ77) => (am_new τ77 (27, 0) 1).bind fun σ80 => if (kk σ80 x0) = 23 then ((RP x0 σ80).bind fun q82 => match q82 with
  | (.inl v84, τ85) => (fX19_init (gz τ77) v84 τ85).bind fun q87 => if [23].elem (kk q87 x0) = true then if [23].elem (kk q87 x0) = true then some (.inl (gz τ77), (wi q87 x0 6 ((gi q87 x0 6) - 1))) else none else none
  | (.inr e86, τ85) => some (.inr e86, τ85)) else none
  | (.inr e78, τ77) => some (.inr e78, τ77)) else none else none
set_option maxHeartbeats 1500000 in
theorem fX15_part_ok (RP : Nat → Sg → Option ((Nat ⊕ (Nat × Nat)) × Sg)) (d : Nat) (hRP : ∀ (x0 : Nat) (σ : Sg) (r : (Nat ⊕ (Nat × Nat)) × Sg), RP x0 σ = some r → Cl true d 6924 [.ref x0] σ (am_outR r)) (x0 : Nat) (σ : Sg) (r : ((Nat ⊕ (Nat × Nat)) × Sg)) (hf : fX15_part RP x0 σ = some r) : Cl true (d + 4) 6924 [.ref x0] σ (am_outR r) := by
  refine ⟨iX15_part, rfl, Nat.le_of_ble_eq_true rfl, Nat.le_of_ble_eq_true rfl, ?_⟩
  show Go true (d + 4) iX15_part (0, [some (.ref x0), none, none], [], σ) (am_outR r)
  unfold fX15_part at hf
  refine go_n 2 (f := (3, [some (.ref x0), none, none], [.ref 1000005, .ref x0], σ)) rfl ?_
  obtain ⟨h1, hf⟩ := grd hf
  obtain ⟨q2, h3, hf⟩ := bnd hf
  refine go_c (mid := 6918) (args := [.ref x0, .ref 1000005]) (pc := 6) (L := [some (.ref x0), none, none]) (st := []) (σ := σ) (stp_callV1 (n := 2) rfl rfl rfl ⟨Nat.le_of_ble_eq_true rfl, Nat.le_of_ble_eq_true rfl⟩ rfl h1 rfl) ((fX15_is_ok _ _ _ q2 h3).deep (by omega)) ?_
  by_cases h4 : q2 = 0
  · rw [if_pos h4] at hf
    refine go_it (t := 37) (f := 9) (L1 := [some (.ref x0), none, none]) (st1 := []) (σ1 := σ) rfl h4 ?_
    refine go_n 2 (f := (40, [some (.ref x0), none, none], [.ref 1000006, .ref x0], σ)) rfl ?_
    obtain ⟨h5, hf⟩ := grd hf
    obtain ⟨q6, h7, hf⟩ := bnd hf
    refine go_c (mid := 6918) (args := [.ref x0, .ref 1000006]) (pc := 43) (L := [some (.ref x0), none, none]) (st := []) (σ := σ) (stp_callV1 (n := 2) rfl rfl rfl ⟨Nat.le_of_ble_eq_true rfl, Nat.le_of_ble_eq_true rfl⟩ rfl h5 rfl) ((fX15_is_ok _ _ _ q6 h7).deep (by omega)) ?_
    by_cases h8 : q6 = 0
    · rw [if_pos h8] at hf
      refine go_it (t := 73) (f := 46) (L1 := [some (.ref x0), none, none]) (st1 := []) (σ1 := σ) rfl h8 ?_
      refine go_n 2 (f := (75, [some (.ref x0), none, none], [.ref x0, .ref x0], σ)) rfl ?_
      obtain ⟨h9, hf⟩ := grd hf
      refine go_get rfl rfl rfl h9 ?_
      refine go_n 2 (f := (82, [some (.ref x0), none, none], [.int 57, .int 48, .int (gi σ x0 3), .ref x0], σ)) rfl ?_
      obtain ⟨h10, hf⟩ := grd hf
      obtain ⟨q11, h12, hf⟩ := bnd hf
      refine go_c (mid := 6915) (args := [.ref x0, .int (gi σ x0 3), .int 48, .int 57]) (pc := 85) (L := [some (.ref x0), none, none]) (st := []) (σ := σ) (stp_callV1 (n := 4) rfl rfl rfl ⟨Nat.le_of_ble_eq_true rfl, Nat.le_of_ble_eq_true rfl⟩ rfl h10 rfl) ((fX15_isIn_ok _ _ _ _ _ q11 h12).deep (by omega)) ?_
      by_cases h13 : q11 = 0
      · rw [if_pos h13] at hf
        refine go_it (t := 108) (f := 88) (L1 := [some (.ref x0), none, none]) (st1 := []) (σ1 := σ) rfl h13 ?_
        refine go_n 1 (f := (109, [some (.ref x0), none, none], [.ref x0], σ)) rfl ?_
        obtain ⟨h14, hf⟩ := grd hf
        obtain ⟨q15, h16, hf⟩ := bnd hf
        refine go_c (mid := 6927) (args := [.ref x0]) (pc := 112) (L := [some (.ref x0), none, none]) (st := []) (σ := σ) (stp_callV1 (n := 1) rfl rfl rfl ⟨Nat.le_of_ble_eq_true rfl, Nat.le_of_ble_eq_true rfl⟩ rfl h14 rfl) ((fX15_field_ok _ _ q15 h16).deep (by omega)) ?_
        refine go_n 3 (f := (115, [some (.ref x0), none, some (.int q15)], [.int (-1), .int q15], σ)) rfl ?_
        by_cases h17 : q15 ≠ (-1)
        · rw [if_pos h17] at hf
          refine go_it (t := 130) (f := 118) (L1 := [some (.ref x0), none, some (.int q15)]) (st1 := []) (σ1 := σ) rfl h17 ?_
          refine go_n 1 (f := (131, [some (.ref x0), none, some (.int q15)], [.ref x0], σ)) rfl ?_
          obtain ⟨h18, hf⟩ := grd hf
          obtain ⟨⟨v21 | e23, τ22⟩, h20, hf⟩ := bnd hf
          · try dsimp only at hf
            refine go_c (mid := 6926) (args := [.ref x0]) (pc := 134) (L := [some (.ref x0), none, some (.int q15)]) (st := []) (σ := σ) (stp_callV1 (n := 1) rfl rfl rfl ⟨Nat.le_of_ble_eq_true rfl, Nat.le_of_ble_eq_true rfl⟩ rfl h18 rfl) ((fX15_leaf_ok _ _ _ h20).deep (by omega)) ?_
            refine go_n 1 (f := (135, [some (.ref x0), none, some (.int q15)], [.ref x0], τ22)) rfl ?_
            obtain ⟨h24, hf⟩ := grd hf
            obtain ⟨q25, h26, hf⟩ := bnd hf
            refine go_c (mid := 6914) (args := [.ref x0]) (pc := 138) (L := [some (.ref x0), none, some (.int q15)]) (st := []) (σ := τ22) (stp_callV1 (n := 1) rfl rfl rfl ⟨Nat.le_of_ble_eq_true rfl, Nat.le_of_ble_eq_true rfl⟩ rfl h24 rfl) ((fX15_next_ok _ _ q25 h26).deep (by omega)) ?_
            obtain ⟨σ28, h27, hf⟩ := bnd hf
            refine go_new rfl rfl rfl h27 ?_
            refine go_n 2 (f := (143, [some (.ref x0), none, some (.int q15)], [.int q15, .ref (gz q25), .ref (gz q25)], σ28)) rfl ?_
            obtain ⟨q29, h30, hf⟩ := bnd hf
            refine go_c (mid := 8704) (args := [.ref (gz q25), .int q15]) (pc := 146) (L := [some (.ref x0), none, some (.int q15)]) (st := [.ref (gz q25)]) (σ := σ28) rfl ((fX21_init_ok _ _ _ q29 h30).deep (by omega)) ?_
            cases hf
            exact go_r rfl
          · try dsimp only at hf
            cases hf
            obtain ⟨ec, ea⟩ := e23
            exact go_ct (mid := 6926) (args := [.ref x0]) (pc := 134) (L := [some (.ref x0), none, some (.int q15)]) (st := []) (σ := σ) (stp_callV1 (n := 1) rfl rfl rfl ⟨Nat.le_of_ble_eq_true rfl, Nat.le_of_ble_eq_true rfl⟩ rfl h18 rfl) ((fX15_leaf_ok _ _ _ h20).deep (by omega)) rfl
        · rw [if_neg h17] at hf
          refine go_if (t := 130) (f := 118) (L1 := [some (.ref x0), none, some (.int q15)]) (st1 := []) (σ1 := σ) rfl h17 ?_
          obtain ⟨σ32, h31, hf⟩ := bnd hf
          refine go_new rfl rfl rfl h31 ?_
          refine go_n 2 (f := (123, [some (.ref x0), none, some (.int q15)], [.ref x0, .ref (gz σ), .ref (gz σ)], σ32)) rfl ?_
          obtain ⟨h33, hf⟩ := grd hf
          refine go_get rfl rfl rfl h33 ?_
          obtain ⟨q34, h35, hf⟩ := bnd hf
          refine go_c (mid := 7168) (args := [.ref (gz σ), .int (gi σ32 x0 3)]) (pc := 129) (L := [some (.ref x0), none, some (.int q15)]) (st := [.ref (gz σ)]) (σ := σ32) rfl ((fX16_init_ok _ _ _ q34 h35).deep (by omega)) ?_
          obtain ⟨h36, hf⟩ := grd hf
          cases hf
          exact go_t (am_thr24 rfl rfl h36) rfl
      · rw [if_neg h13] at hf
        refine go_if (t := 108) (f := 88) (L1 := [some (.ref x0), none, none]) (st1 := []) (σ1 := σ) rfl h13 ?_
        refine go_n 1 (f := (89, [some (.ref x0), none, none], [.ref x0], σ)) rfl ?_
        obtain ⟨h37, hf⟩ := grd hf
        obtain ⟨⟨v40 | e42, τ41⟩, h39, hf⟩ := bnd hf
        · try dsimp only at hf
          refine go_c (mid := 6926) (args := [.ref x0]) (pc := 92) (L := [some (.ref x0), none, none]) (st := []) (σ := σ) (stp_callV1 (n := 1) rfl rfl rfl ⟨Nat.le_of_ble_eq_true rfl, Nat.le_of_ble_eq_true rfl⟩ rfl h37 rfl) ((fX15_leaf_ok _ _ _ h39).deep (by omega)) ?_
          obtain ⟨σ44, h43, hf⟩ := bnd hf
          refine go_new rfl rfl rfl h43 ?_
          refine go_n 4 (f := (101, [some (.ref x0), none, none], [.int 10000, .int 0, .ref x0, .ref (gz τ41), .ref (gz τ41)], σ44)) rfl ?_
          obtain ⟨h45, hf⟩ := grd hf
          obtain ⟨⟨v48 | e50, τ49⟩, h47, hf⟩ := bnd hf
          · try dsimp only at hf
            refine go_c (mid := 6919) (args := [.ref x0, .int 0, .int 10000]) (pc := 104) (L := [some (.ref x0), none, none]) (st := [.ref (gz τ41), .ref (gz τ41)]) (σ := σ44) (stp_callV1 (n := 3) rfl rfl rfl ⟨Nat.le_of_ble_eq_true rfl, Nat.le_of_ble_eq_true rfl⟩ rfl h45 rfl) ((fX15_number_ok _ _ _ _ _ h47).deep (by omega)) ?_
            obtain ⟨q51, h52, hf⟩ := bnd hf
            refine go_c (mid := 8448) (args := [.ref (gz τ41), .int v48]) (pc := 107) (L := [some (.ref x0), none, none]) (st := [.ref (gz τ41)]) (σ := τ49) rfl ((fX20_init_ok _ _ _ q51 h52).deep (by omega)) ?_
            cases hf
            exact go_r rfl
          · try dsimp only at hf
            cases hf
            obtain ⟨ec, ea⟩ := e50
            exact go_ct (mid := 6919) (args := [.ref x0, .int 0, .int 10000]) (pc := 104) (L := [some (.ref x0), none, none]) (st := [.ref (gz τ41), .ref (gz τ41)]) (σ := σ44) (stp_callV1 (n := 3) rfl rfl rfl ⟨Nat.le_of_ble_eq_true rfl, Nat.le_of_ble_eq_true rfl⟩ rfl h45 rfl) ((fX15_number_ok _ _ _ _ _ h47).deep (by omega)) rfl
        · try dsimp only at hf
          cases hf
          obtain ⟨ec, ea⟩ := e42
          exact go_ct (mid := 6926) (args := [.ref x0]) (pc := 92) (L := [some (.ref x0), none, none]) (st := []) (σ := σ) (stp_callV1 (n := 1) rfl rfl rfl ⟨Nat.le_of_ble_eq_true rfl, Nat.le_of_ble_eq_true rfl⟩ rfl h37 rfl) ((fX15_leaf_ok _ _ _ h39).deep (by omega)) rfl
    · rw [if_neg h8] at hf
      refine go_if (t := 73) (f := 46) (L1 := [some (.ref x0), none, none]) (st1 := []) (σ1 := σ) rfl h8 ?_
      refine go_n 1 (f := (47, [some (.ref x0), none, none], [.ref x0], σ)) rfl ?_
      obtain ⟨h53, hf⟩ := grd hf
      obtain ⟨⟨v56 | e58, τ57⟩, h55, hf⟩ := bnd hf
      · try dsimp only at hf
        refine go_c (mid := 6925) (args := [.ref x0]) (pc := 50) (L := [some (.ref x0), none, none]) (st := []) (σ := σ) (stp_callV1 (n := 1) rfl rfl rfl ⟨Nat.le_of_ble_eq_true rfl, Nat.le_of_ble_eq_true rfl⟩ rfl h53 rfl) ((fX15_opens_ok _ _ _ h55).deep (by omega)) ?_
        refine go_n 1 (f := (51, [some (.ref x0), none, none], [.ref x0], τ57)) rfl ?_
        obtain ⟨h59, hf⟩ := grd hf
        obtain ⟨⟨v62 | e64, τ63⟩, h61, hf⟩ := bnd hf
        · try dsimp only at hf
          refine go_c (mid := 6922) (args := [.ref x0]) (pc := 54) (L := [some (.ref x0), none, none]) (st := []) (σ := τ57) (stp_callV1 (n := 1) rfl rfl rfl ⟨Nat.le_of_ble_eq_true rfl, Nat.le_of_ble_eq_true rfl⟩ rfl h59 rfl) ((fX15_sum_ok RP d hRP _ _ _ h61).deep (by omega)) ?_
          refine go_n 3 (f := (58, [some (.ref x0), some (.ref v62), none], [.ref 1000007, .ref x0], τ63)) rfl ?_
          obtain ⟨h65, hf⟩ := grd hf
          obtain ⟨⟨v68 | e70, τ69⟩, h67, hf⟩ := bnd hf
          · try dsimp only at hf
            refine go_c (mid := 6920) (args := [.ref x0, .ref 1000007]) (pc := 61) (L := [some (.ref x0), some (.ref v62), none]) (st := []) (σ := τ63) (stp_callV1 (n := 2) rfl rfl rfl ⟨Nat.le_of_ble_eq_true rfl, Nat.le_of_ble_eq_true rfl⟩ rfl h65 rfl) ((fX15_need_ok _ _ _ _ h67).deep (by omega)) ?_
            refine go_n 2 (f := (63, [some (.ref x0), some (.ref v62), none], [.ref x0, .ref x0], τ69)) rfl ?_
            obtain ⟨h71, hf⟩ := grd hf
            refine go_get rfl rfl rfl h71 ?_
            refine go_n 2 (f := (68, [some (.ref x0), some (.ref v62), none], [.int ((gi τ69 x0 6) - 1), .ref x0], τ69)) rfl ?_
            obtain ⟨h72, hf⟩ := grd hf
            refine go_puti rfl rfl rfl h72 rfl rfl rfl ?_
            refine go_n 1 (f := (72, [some (.ref x0), some (.ref v62), none], [.ref v62], (wi τ69 x0 6 ((gi τ69 x0 6) - 1)))) rfl ?_
            cases hf
            exact go_r rfl
          · try dsimp only at hf
            cases hf
            obtain ⟨ec, ea⟩ := e70
            exact go_ct (mid := 6920) (args := [.ref x0, .ref 1000007]) (pc := 61) (L := [some (.ref x0), some (.ref v62), none]) (st := []) (σ := τ63) (stp_callV1 (n := 2) rfl rfl rfl ⟨Nat.le_of_ble_eq_true rfl, Nat.le_of_ble_eq_true rfl⟩ rfl h65 rfl) ((fX15_need_ok _ _ _ _ h67).deep (by omega)) rfl
        · try dsimp only at hf
          cases hf
          obtain ⟨ec, ea⟩ := e64
          exact go_ct (mid := 6922) (args := [.ref x0]) (pc := 54) (L := [some (.ref x0), none, none]) (st := []) (σ := τ57) (stp_callV1 (n := 1) rfl rfl rfl ⟨Nat.le_of_ble_eq_true rfl, Nat.le_of_ble_eq_true rfl⟩ rfl h59 rfl) ((fX15_sum_ok RP d hRP _ _ _ h61).deep (by omega)) rfl
      · try dsimp only at hf
        cases hf
        obtain ⟨ec, ea⟩ := e58
        exact go_ct (mid := 6925) (args := [.ref x0]) (pc := 50) (L := [some (.ref x0), none, none]) (st := []) (σ := σ) (stp_callV1 (n := 1) rfl rfl rfl ⟨Nat.le_of_ble_eq_true rfl, Nat.le_of_ble_eq_true rfl⟩ rfl h53 rfl) ((fX15_opens_ok _ _ _ h55).deep (by omega)) rfl
  · rw [if_neg h4] at hf
    refine go_if (t := 37) (f := 9) (L1 := [some (.ref x0), none, none]) (st1 := []) (σ1 := σ) rfl h4 ?_
    refine go_n 1 (f := (10, [some (.ref x0), none, none], [.ref x0], σ)) rfl ?_
    obtain ⟨h73, hf⟩ := grd hf
    obtain ⟨⟨v76 | e78, τ77⟩, h75, hf⟩ := bnd hf
    · try dsimp only at hf
      refine go_c (mid := 6925) (args := [.ref x0]) (pc := 13) (L := [some (.ref x0), none, none]) (st := []) (σ := σ) (stp_callV1 (n := 1) rfl rfl rfl ⟨Nat.le_of_ble_eq_true rfl, Nat.le_of_ble_eq_true rfl⟩ rfl h73 rfl) ((fX15_opens_ok _ _ _ h75).deep (by omega)) ?_
      obtain ⟨σ80, h79, hf⟩ := bnd hf
      refine go_new rfl rfl rfl h79 ?_
      refine go_n 2 (f := (18, [some (.ref x0), none, none], [.ref x0, .ref (gz τ77), .ref (gz τ77)], σ80)) rfl ?_
      obtain ⟨h81, hf⟩ := grd hf
      obtain ⟨⟨v84 | e86, τ85⟩, h83, hf⟩ := bnd hf
      · try dsimp only at hf
        refine go_c (mid := 6924) (args := [.ref x0]) (pc := 21) (L := [some (.ref x0), none, none]) (st := [.ref (gz τ77), .ref (gz τ77)]) (σ := σ80) (stp_callV1 (n := 1) rfl rfl rfl ⟨Nat.le_of_ble_eq_true rfl, Nat.le_of_ble_eq_true rfl⟩ rfl h81 rfl) ((hRP _ _ _ h83).deep (by omega)) ?_
        obtain ⟨q87, h88, hf⟩ := bnd hf
        refine go_c (mid := 7936) (args := [.ref (gz τ77), .ref v84]) (pc := 24) (L := [some (.ref x0), none, none]) (st := [.ref (gz τ77)]) (σ := τ85) rfl ((fX19_init_ok _ _ _ q87 h88).deep (by omega)) ?_
        refine go_n 3 (f := (27, [some (.ref x0), some (.ref (gz τ77)), none], [.ref x0, .ref x0], q87)) rfl ?_
        obtain ⟨h89, hf⟩ := grd hf
        refine go_get rfl rfl rfl h89 ?_
        refine go_n 2 (f := (32, [some (.ref x0), some (.ref (gz τ77)), none], [.int ((gi q87 x0 6) - 1), .ref x0], q87)) rfl ?_
        obtain ⟨h90, hf⟩ := grd hf
        refine go_puti rfl rfl rfl h90 rfl rfl rfl ?_
        refine go_n 1 (f := (36, [some (.ref x0), some (.ref (gz τ77)), none], [.ref (gz τ77)], (wi q87 x0 6 ((gi q87 x0 6) - 1)))) rfl ?_
        cases hf
        exact go_r rfl
      · try dsimp only at hf
        cases hf
        obtain ⟨ec, ea⟩ := e86
        exact go_ct (mid := 6924) (args := [.ref x0]) (pc := 21) (L := [some (.ref x0), none, none]) (st := [.ref (gz τ77), .ref (gz τ77)]) (σ := σ80) (stp_callV1 (n := 1) rfl rfl rfl ⟨Nat.le_of_ble_eq_true rfl, Nat.le_of_ble_eq_true rfl⟩ rfl h81 rfl) ((hRP _ _ _ h83).deep (by omega)) rfl
    · try dsimp only at hf
      cases hf
      obtain ⟨ec, ea⟩ := e78
      exact go_ct (mid := 6925) (args := [.ref x0]) (pc := 13) (L := [some (.ref x0), none, none]) (st := []) (σ := σ) (stp_callV1 (n := 1) rfl rfl rfl ⟨Nat.le_of_ble_eq_true rfl, Nat.le_of_ble_eq_true rfl⟩ rfl h73 rfl) ((fX15_opens_ok _ _ _ h75).deep (by omega)) rfl
def rP : Nat → Nat → Sg → Option ((Nat ⊕ (Nat × Nat)) × Sg)
  | 0 => fun _ _ => none
  | n + 1 => fun x0 σ => fX15_part (rP n) x0 σ
set_option maxHeartbeats 1500000 in
theorem rP_ok : ∀ (n : Nat) (x0 : Nat) (σ : Sg) (r : (Nat ⊕ (Nat × Nat)) × Sg), rP n x0 σ = some r → Cl true (4 * n) 6924 [.ref x0] σ (am_outR r) := by
  intro n
  induction n with
  | zero => intro x0 σ r h; cases h
  | succ n ih =>
    intro x0 σ r h
    exact (fX15_part_ok (rP n) (4 * n) ih x0 σ r h).deep (by omega)
/-! OldWeather$Reader.head()LOldWeather$Clause; -/
def fX15_head_J202 (x0 : Nat) (x1 : Nat)  (σ : Sg) : Option ((Nat ⊕ (Nat × Nat)) × Sg) :=
  if (kk σ x0) = 23 then ((fX15_sum (rP 12) x0 σ).bind fun q32 => match q32 with
  | (.inl v34, τ35) => if [26].elem (kk τ35 x1) = true then if (stT true x1 3).isNone = true then some (.inl x1, (wr τ35 x1 3 (some v34))) else none else none
  | (.inr e36, τ35) => some (.inr e36, τ35)) else none
set_option maxHeartbeats 1500000 in
theorem fX15_head_J202_ok (x0 : Nat) (x1 : Nat)  (σ : Sg)  (r : ((Nat ⊕ (Nat × Nat)) × Sg)) (hf : fX15_head_J202 x0 x1  σ = some r) : Go true 52 iX15_head (202, [some (.ref x0), some (.ref x1), none], [], σ) (am_outR r) := by
  unfold fX15_head_J202 at hf
  refine go_n 2 (f := (204, [some (.ref x0), some (.ref x1), none], [.ref x0, .ref x1], σ)) rfl ?_
  obtain ⟨h31, hf⟩ := grd hf
  obtain ⟨⟨v34 | e36, τ35⟩, h33, hf⟩ := bnd hf
  · try dsimp only at hf
    refine go_c (mid := 6922) (args := [.ref x0]) (pc := 207) (L := [some (.ref x0), some (.ref x1), none]) (st := [.ref x1]) (σ := σ) (stp_callV1 (n := 1) rfl rfl rfl ⟨Nat.le_of_ble_eq_true rfl, Nat.le_of_ble_eq_true rfl⟩ rfl h31 rfl) ((fX15_sum_ok (rP 12) 48 (rP_ok 12) _ _ _ h33).deep (Nat.le_of_ble_eq_true rfl)) ?_
    obtain ⟨h37, hf⟩ := grd hf
    obtain ⟨h38, hf⟩ := grd hf
    refine go_putr rfl rfl rfl h37 rfl h38 ?_
    refine go_n 1 (f := (211, [some (.ref x0), some (.ref x1), none], [.ref x1], (wr τ35 x1 3 (some v34)))) rfl ?_
    cases hf
    exact go_r rfl
  · try dsimp only at hf
    cases hf
    obtain ⟨ec, ea⟩ := e36
    exact go_ct (mid := 6922) (args := [.ref x0]) (pc := 207) (L := [some (.ref x0), some (.ref x1), none]) (st := [.ref x1]) (σ := σ) (stp_callV1 (n := 1) rfl rfl rfl ⟨Nat.le_of_ble_eq_true rfl, Nat.le_of_ble_eq_true rfl⟩ rfl h31 rfl) ((fX15_sum_ok (rP 12) 48 (rP_ok 12) _ _ _ h33).deep (Nat.le_of_ble_eq_true rfl)) rfl
def fX15_head (x0 : Nat) (σ : Sg) : Option ((Nat ⊕ (Nat × Nat)) × Sg) :=
  if (kk σ x0) = 23 then (fX15_takes x0 1000004 σ).bind fun q2 => if q2.1 = 0 then if (kk q2.2 x0) = 23 then (fX15_takes x0 1000019 q2.2).bind fun q6 => if q6.1 = 0 then if (kk q6.2 x0) = 23 then (fX15_takes x0 1000021 q6.2).bind fun q10 => if q10.1 = 0 then if (kk q10.2 x0) = 23 then (fX15_takes x0 1000023 q10.2).bind fun q14 => if q14.1 = 0 then if (kk q14.2 x0) = 23 then (fX15_takes x0 1000025 q14.2).bind fun q18 => if q18.1 = 0 then if (kk q18.2 x0) = 23 then ((fX15_need x0 1000026 q18.2).bind fun q22 => match q22 with
  | (.inl v24, τ25) => (am_new τ25 (26, 0) 6).bind fun σ28 => (fX17_init (gz τ25) 4 0 0 σ28).bind fun q29 => fX15_head_J202 x0 (gz τ25)  q29
  | (.inr e26, τ25) => some (.inr e26, τ25)) else none else (am_new q18.2 (26, 0) 6).bind fun σ40 => (fX17_init (gz q18.2) 3 0 0 σ40).bind fun q41 => fX15_head_J202 x0 (gz q18.2)  q41 else none else (am_new q14.2 (26, 0) 6).bind fun σ44 => (fX17_init (gz q14.2) 2 0 0 σ44).bind fun q45 => fX15_head_J202 x0 (gz q14.2)  q45 else none else (am_new q10.2 (26, 0) 6).bind fun σ48 => if (kk σ48 x0) = 23 then ((fX15_kind x0 σ48).bind fun q50 => match q50 with
  | (.inl v52, τ53) => (fX17_init (gz q10.2) 6 v52 0 τ53).bind fun q55 => fX15_head_J202 x0 (gz q10.2)  q55
  | (.inr e54, τ53) => some (.inr e54, τ53)) else none else none else (am_new q6.2 (26, 0) 6).bind fun σ58 => if (kk σ58 x0) = 23 then ((fX15_number x0 0 3 σ58).bind fun q60 => match q60 with
  | (.inl v62, τ63) => (fX17_init (gz q6.2) 5 v62 0 τ63).bind fun q65 => if (kk q65 x0) = 23 then ((fX15_sum (rP 12) x0 q65).bind fun q68 => match q68 with
  | (.inl v70, τ71) => if [26].elem (kk τ71 (gz q6.2)) = true then if (stT true (gz q6.2) 3).isNone = true then if (kk τ71 x0) = 23 then ((fX15_need x0 1000020 (wr τ71 (gz q6.2) 3 (some v70))).bind fun q76 => match q76 with
  | (.inl v78, τ79) => if (kk τ79 x0) = 23 then ((fX15_sum (rP 12) x0 τ79).bind fun q82 => match q82 with
  | (.inl v84, τ85) => if [26].elem (kk τ85 (gz q6.2)) = true then if (stT true (gz q6.2) 4).isNone = true then some (.inl (gz q6.2), (wr τ85 (gz q6.2) 4 (some v84))) else none else none
  | (.inr e86, τ85) => some (.inr e86, τ85)) else none
  | (.inr e80, τ79) => some (.inr e80, τ79)) else none else none else none
  | (.inr e72, τ71) => some (.inr e72, τ71)) else none
  | (.inr e64, τ63) => some (.inr e64, τ63)) else none else none else if (kk q2.2 x0) = 23 then ((fX15_number x0 0 7 q2.2).bind fun q90 => match q90 with
  | (.inl v92, τ93) => (am_new τ93 (26, 0) 6).bind fun σ96 => if (kk σ96 x0) = 23 then ((fX15_number x0 0 19 σ96).bind fun q98 => match q98 with
  | (.inl v100, τ101) => (fX17_init (gz τ93) 1 ((20 * v92) + v100) 0 τ101).bind fun q103 => if (kk q103 x0) = 23 then ((fX15_sum (rP 12) x0 q103).bind fun q106 => match q106 with
  | (.inl v108, τ109) => if [26].elem (kk τ109 (gz τ93)) = true then if (stT true (gz τ93) 3).isNone = true then if (kk τ109 x0) = 23 then ((fX15_need x0 1000018 (wr τ109 (gz τ93) 3 (some v108))).bind fun q114 => match q114 with
  | (.inl v116, τ117) => if (kk τ117 x0) = 23 then ((fX15_sum (rP 12) x0 τ117).bind fun q120 => match q120 with
  | (.inl v122, τ123) => if [26].elem (kk τ123 (gz τ93)) = true then if (stT true (gz τ93) 4).isNone = true then some (.inl (gz τ93), (wr τ123 (gz τ93) 4 (some v122))) else none else none
  | (.inr e124, τ123) => some (.inr e124, τ123)) else none
  | (.inr e118, τ117) => some (.inr e118, τ117)) else none else none else none
  | (.inr e110, τ109) => some (.inr e110, τ109)) else none
  | (.inr e102, τ101) => some (.inr e102, τ101)) else none
  | (.inr e94, τ93) => some (.inr e94, τ93)) else none else none
set_option maxHeartbeats 1500000 in
theorem fX15_head_ok (x0 : Nat) (σ : Sg) (r : ((Nat ⊕ (Nat × Nat)) × Sg)) (hf : fX15_head x0 σ = some r) : Cl true 52 6921 [.ref x0] σ (am_outR r) := by
  refine ⟨iX15_head, rfl, Nat.le_of_ble_eq_true rfl, Nat.le_of_ble_eq_true rfl, ?_⟩
  show Go true 52 iX15_head (0, [some (.ref x0), none, none], [], σ) (am_outR r)
  unfold fX15_head at hf
  refine go_n 2 (f := (3, [some (.ref x0), none, none], [.ref 1000004, .ref x0], σ)) rfl ?_
  obtain ⟨h1, hf⟩ := grd hf
  obtain ⟨q2, h3, hf⟩ := bnd hf
  refine go_c (mid := 6917) (args := [.ref x0, .ref 1000004]) (pc := 6) (L := [some (.ref x0), none, none]) (st := []) (σ := σ) (stp_callV1 (n := 2) rfl rfl rfl ⟨Nat.le_of_ble_eq_true rfl, Nat.le_of_ble_eq_true rfl⟩ rfl h1 rfl) ((fX15_takes_ok _ _ _ q2 h3).deep (Nat.le_of_ble_eq_true rfl)) ?_
  by_cases h4 : q2.1 = 0
  · rw [if_pos h4] at hf
    refine go_it (t := 63) (f := 9) (L1 := [some (.ref x0), none, none]) (st1 := []) (σ1 := q2.2) rfl h4 ?_
    refine go_n 2 (f := (66, [some (.ref x0), none, none], [.ref 1000019, .ref x0], q2.2)) rfl ?_
    obtain ⟨h5, hf⟩ := grd hf
    obtain ⟨q6, h7, hf⟩ := bnd hf
    refine go_c (mid := 6917) (args := [.ref x0, .ref 1000019]) (pc := 69) (L := [some (.ref x0), none, none]) (st := []) (σ := q2.2) (stp_callV1 (n := 2) rfl rfl rfl ⟨Nat.le_of_ble_eq_true rfl, Nat.le_of_ble_eq_true rfl⟩ rfl h5 rfl) ((fX15_takes_ok _ _ _ q6 h7).deep (Nat.le_of_ble_eq_true rfl)) ?_
    by_cases h8 : q6.1 = 0
    · rw [if_pos h8] at hf
      refine go_it (t := 112) (f := 72) (L1 := [some (.ref x0), none, none]) (st1 := []) (σ1 := q6.2) rfl h8 ?_
      refine go_n 2 (f := (115, [some (.ref x0), none, none], [.ref 1000021, .ref x0], q6.2)) rfl ?_
      obtain ⟨h9, hf⟩ := grd hf
      obtain ⟨q10, h11, hf⟩ := bnd hf
      refine go_c (mid := 6917) (args := [.ref x0, .ref 1000021]) (pc := 118) (L := [some (.ref x0), none, none]) (st := []) (σ := q6.2) (stp_callV1 (n := 2) rfl rfl rfl ⟨Nat.le_of_ble_eq_true rfl, Nat.le_of_ble_eq_true rfl⟩ rfl h9 rfl) ((fX15_takes_ok _ _ _ q10 h11).deep (Nat.le_of_ble_eq_true rfl)) ?_
      by_cases h12 : q10.1 = 0
      · rw [if_pos h12] at hf
        refine go_it (t := 139) (f := 121) (L1 := [some (.ref x0), none, none]) (st1 := []) (σ1 := q10.2) rfl h12 ?_
        refine go_n 2 (f := (142, [some (.ref x0), none, none], [.ref 1000023, .ref x0], q10.2)) rfl ?_
        obtain ⟨h13, hf⟩ := grd hf
        obtain ⟨q14, h15, hf⟩ := bnd hf
        refine go_c (mid := 6917) (args := [.ref x0, .ref 1000023]) (pc := 145) (L := [some (.ref x0), none, none]) (st := []) (σ := q10.2) (stp_callV1 (n := 2) rfl rfl rfl ⟨Nat.le_of_ble_eq_true rfl, Nat.le_of_ble_eq_true rfl⟩ rfl h13 rfl) ((fX15_takes_ok _ _ _ q14 h15).deep (Nat.le_of_ble_eq_true rfl)) ?_
        by_cases h16 : q14.1 = 0
        · rw [if_pos h16] at hf
          refine go_it (t := 162) (f := 148) (L1 := [some (.ref x0), none, none]) (st1 := []) (σ1 := q14.2) rfl h16 ?_
          refine go_n 2 (f := (165, [some (.ref x0), none, none], [.ref 1000025, .ref x0], q14.2)) rfl ?_
          obtain ⟨h17, hf⟩ := grd hf
          obtain ⟨q18, h19, hf⟩ := bnd hf
          refine go_c (mid := 6917) (args := [.ref x0, .ref 1000025]) (pc := 168) (L := [some (.ref x0), none, none]) (st := []) (σ := q14.2) (stp_callV1 (n := 2) rfl rfl rfl ⟨Nat.le_of_ble_eq_true rfl, Nat.le_of_ble_eq_true rfl⟩ rfl h17 rfl) ((fX15_takes_ok _ _ _ q18 h19).deep (Nat.le_of_ble_eq_true rfl)) ?_
          by_cases h20 : q18.1 = 0
          · rw [if_pos h20] at hf
            refine go_it (t := 185) (f := 171) (L1 := [some (.ref x0), none, none]) (st1 := []) (σ1 := q18.2) rfl h20 ?_
            refine go_n 2 (f := (188, [some (.ref x0), none, none], [.ref 1000026, .ref x0], q18.2)) rfl ?_
            obtain ⟨h21, hf⟩ := grd hf
            obtain ⟨⟨v24 | e26, τ25⟩, h23, hf⟩ := bnd hf
            · try dsimp only at hf
              refine go_c (mid := 6920) (args := [.ref x0, .ref 1000026]) (pc := 191) (L := [some (.ref x0), none, none]) (st := []) (σ := q18.2) (stp_callV1 (n := 2) rfl rfl rfl ⟨Nat.le_of_ble_eq_true rfl, Nat.le_of_ble_eq_true rfl⟩ rfl h21 rfl) ((fX15_need_ok _ _ _ _ h23).deep (Nat.le_of_ble_eq_true rfl)) ?_
              obtain ⟨σ28, h27, hf⟩ := bnd hf
              refine go_new rfl rfl rfl h27 ?_
              refine go_n 4 (f := (198, [some (.ref x0), none, none], [.int 0, .int 0, .int 4, .ref (gz τ25), .ref (gz τ25)], σ28)) rfl ?_
              obtain ⟨q29, h30, hf⟩ := bnd hf
              refine go_c (mid := 7424) (args := [.ref (gz τ25), .int 4, .int 0, .int 0]) (pc := 201) (L := [some (.ref x0), none, none]) (st := [.ref (gz τ25)]) (σ := σ28) rfl ((fX17_init_ok _ _ _ _ _ q29 h30).deep (Nat.le_of_ble_eq_true rfl)) ?_
              refine go_n 1 (f := (202, [some (.ref x0), some (.ref (gz τ25)), none], [], q29)) rfl ?_
              exact fX15_head_J202_ok _ _  _  _ hf
            · try dsimp only at hf
              cases hf
              obtain ⟨ec, ea⟩ := e26
              exact go_ct (mid := 6920) (args := [.ref x0, .ref 1000026]) (pc := 191) (L := [some (.ref x0), none, none]) (st := []) (σ := q18.2) (stp_callV1 (n := 2) rfl rfl rfl ⟨Nat.le_of_ble_eq_true rfl, Nat.le_of_ble_eq_true rfl⟩ rfl h21 rfl) ((fX15_need_ok _ _ _ _ h23).deep (Nat.le_of_ble_eq_true rfl)) rfl
          · rw [if_neg h20] at hf
            refine go_if (t := 185) (f := 171) (L1 := [some (.ref x0), none, none]) (st1 := []) (σ1 := q18.2) rfl h20 ?_
            obtain ⟨σ40, h39, hf⟩ := bnd hf
            refine go_new rfl rfl rfl h39 ?_
            refine go_n 4 (f := (178, [some (.ref x0), none, none], [.int 0, .int 0, .int 3, .ref (gz q18.2), .ref (gz q18.2)], σ40)) rfl ?_
            obtain ⟨q41, h42, hf⟩ := bnd hf
            refine go_c (mid := 7424) (args := [.ref (gz q18.2), .int 3, .int 0, .int 0]) (pc := 181) (L := [some (.ref x0), none, none]) (st := [.ref (gz q18.2)]) (σ := σ40) rfl ((fX17_init_ok _ _ _ _ _ q41 h42).deep (Nat.le_of_ble_eq_true rfl)) ?_
            refine go_n 2 (f := (202, [some (.ref x0), some (.ref (gz q18.2)), none], [], q41)) rfl ?_
            exact fX15_head_J202_ok _ _  _  _ hf
        · rw [if_neg h16] at hf
          refine go_if (t := 162) (f := 148) (L1 := [some (.ref x0), none, none]) (st1 := []) (σ1 := q14.2) rfl h16 ?_
          obtain ⟨σ44, h43, hf⟩ := bnd hf
          refine go_new rfl rfl rfl h43 ?_
          refine go_n 4 (f := (155, [some (.ref x0), none, none], [.int 0, .int 0, .int 2, .ref (gz q14.2), .ref (gz q14.2)], σ44)) rfl ?_
          obtain ⟨q45, h46, hf⟩ := bnd hf
          refine go_c (mid := 7424) (args := [.ref (gz q14.2), .int 2, .int 0, .int 0]) (pc := 158) (L := [some (.ref x0), none, none]) (st := [.ref (gz q14.2)]) (σ := σ44) rfl ((fX17_init_ok _ _ _ _ _ q45 h46).deep (Nat.le_of_ble_eq_true rfl)) ?_
          refine go_n 2 (f := (202, [some (.ref x0), some (.ref (gz q14.2)), none], [], q45)) rfl ?_
          exact fX15_head_J202_ok _ _  _  _ hf
      · rw [if_neg h12] at hf
        refine go_if (t := 139) (f := 121) (L1 := [some (.ref x0), none, none]) (st1 := []) (σ1 := q10.2) rfl h12 ?_
        obtain ⟨σ48, h47, hf⟩ := bnd hf
        refine go_new rfl rfl rfl h47 ?_
        refine go_n 3 (f := (128, [some (.ref x0), none, none], [.ref x0, .int 6, .ref (gz q10.2), .ref (gz q10.2)], σ48)) rfl ?_
        obtain ⟨h49, hf⟩ := grd hf
        obtain ⟨⟨v52 | e54, τ53⟩, h51, hf⟩ := bnd hf
        · try dsimp only at hf
          refine go_c (mid := 6928) (args := [.ref x0]) (pc := 131) (L := [some (.ref x0), none, none]) (st := [.int 6, .ref (gz q10.2), .ref (gz q10.2)]) (σ := σ48) (stp_callV1 (n := 1) rfl rfl rfl ⟨Nat.le_of_ble_eq_true rfl, Nat.le_of_ble_eq_true rfl⟩ rfl h49 rfl) ((fX15_kind_ok _ _ _ h51).deep (Nat.le_of_ble_eq_true rfl)) ?_
          refine go_n 1 (f := (132, [some (.ref x0), none, none], [.int 0, .int v52, .int 6, .ref (gz q10.2), .ref (gz q10.2)], τ53)) rfl ?_
          obtain ⟨q55, h56, hf⟩ := bnd hf
          refine go_c (mid := 7424) (args := [.ref (gz q10.2), .int 6, .int v52, .int 0]) (pc := 135) (L := [some (.ref x0), none, none]) (st := [.ref (gz q10.2)]) (σ := τ53) rfl ((fX17_init_ok _ _ _ _ _ q55 h56).deep (Nat.le_of_ble_eq_true rfl)) ?_
          refine go_n 2 (f := (202, [some (.ref x0), some (.ref (gz q10.2)), none], [], q55)) rfl ?_
          exact fX15_head_J202_ok _ _  _  _ hf
        · try dsimp only at hf
          cases hf
          obtain ⟨ec, ea⟩ := e54
          exact go_ct (mid := 6928) (args := [.ref x0]) (pc := 131) (L := [some (.ref x0), none, none]) (st := [.int 6, .ref (gz q10.2), .ref (gz q10.2)]) (σ := σ48) (stp_callV1 (n := 1) rfl rfl rfl ⟨Nat.le_of_ble_eq_true rfl, Nat.le_of_ble_eq_true rfl⟩ rfl h49 rfl) ((fX15_kind_ok _ _ _ h51).deep (Nat.le_of_ble_eq_true rfl)) rfl
    · rw [if_neg h8] at hf
      refine go_if (t := 112) (f := 72) (L1 := [some (.ref x0), none, none]) (st1 := []) (σ1 := q6.2) rfl h8 ?_
      obtain ⟨σ58, h57, hf⟩ := bnd hf
      refine go_new rfl rfl rfl h57 ?_
      refine go_n 5 (f := (80, [some (.ref x0), none, none], [.int 3, .int 0, .ref x0, .int 5, .ref (gz q6.2), .ref (gz q6.2)], σ58)) rfl ?_
      obtain ⟨h59, hf⟩ := grd hf
      obtain ⟨⟨v62 | e64, τ63⟩, h61, hf⟩ := bnd hf
      · try dsimp only at hf
        refine go_c (mid := 6919) (args := [.ref x0, .int 0, .int 3]) (pc := 83) (L := [some (.ref x0), none, none]) (st := [.int 5, .ref (gz q6.2), .ref (gz q6.2)]) (σ := σ58) (stp_callV1 (n := 3) rfl rfl rfl ⟨Nat.le_of_ble_eq_true rfl, Nat.le_of_ble_eq_true rfl⟩ rfl h59 rfl) ((fX15_number_ok _ _ _ _ _ h61).deep (Nat.le_of_ble_eq_true rfl)) ?_
        refine go_n 1 (f := (84, [some (.ref x0), none, none], [.int 0, .int v62, .int 5, .ref (gz q6.2), .ref (gz q6.2)], τ63)) rfl ?_
        obtain ⟨q65, h66, hf⟩ := bnd hf
        refine go_c (mid := 7424) (args := [.ref (gz q6.2), .int 5, .int v62, .int 0]) (pc := 87) (L := [some (.ref x0), none, none]) (st := [.ref (gz q6.2)]) (σ := τ63) rfl ((fX17_init_ok _ _ _ _ _ q65 h66).deep (Nat.le_of_ble_eq_true rfl)) ?_
        refine go_n 3 (f := (90, [some (.ref x0), some (.ref (gz q6.2)), none], [.ref x0, .ref (gz q6.2)], q65)) rfl ?_
        obtain ⟨h67, hf⟩ := grd hf
        obtain ⟨⟨v70 | e72, τ71⟩, h69, hf⟩ := bnd hf
        · try dsimp only at hf
          refine go_c (mid := 6922) (args := [.ref x0]) (pc := 93) (L := [some (.ref x0), some (.ref (gz q6.2)), none]) (st := [.ref (gz q6.2)]) (σ := q65) (stp_callV1 (n := 1) rfl rfl rfl ⟨Nat.le_of_ble_eq_true rfl, Nat.le_of_ble_eq_true rfl⟩ rfl h67 rfl) ((fX15_sum_ok (rP 12) 48 (rP_ok 12) _ _ _ h69).deep (Nat.le_of_ble_eq_true rfl)) ?_
          obtain ⟨h73, hf⟩ := grd hf
          obtain ⟨h74, hf⟩ := grd hf
          refine go_putr rfl rfl rfl h73 rfl h74 ?_
          refine go_n 2 (f := (99, [some (.ref x0), some (.ref (gz q6.2)), none], [.ref 1000020, .ref x0], (wr τ71 (gz q6.2) 3 (some v70)))) rfl ?_
          obtain ⟨h75, hf⟩ := grd hf
          obtain ⟨⟨v78 | e80, τ79⟩, h77, hf⟩ := bnd hf
          · try dsimp only at hf
            refine go_c (mid := 6920) (args := [.ref x0, .ref 1000020]) (pc := 102) (L := [some (.ref x0), some (.ref (gz q6.2)), none]) (st := []) (σ := (wr τ71 (gz q6.2) 3 (some v70))) (stp_callV1 (n := 2) rfl rfl rfl ⟨Nat.le_of_ble_eq_true rfl, Nat.le_of_ble_eq_true rfl⟩ rfl h75 rfl) ((fX15_need_ok _ _ _ _ h77).deep (Nat.le_of_ble_eq_true rfl)) ?_
            refine go_n 2 (f := (104, [some (.ref x0), some (.ref (gz q6.2)), none], [.ref x0, .ref (gz q6.2)], τ79)) rfl ?_
            obtain ⟨h81, hf⟩ := grd hf
            obtain ⟨⟨v84 | e86, τ85⟩, h83, hf⟩ := bnd hf
            · try dsimp only at hf
              refine go_c (mid := 6922) (args := [.ref x0]) (pc := 107) (L := [some (.ref x0), some (.ref (gz q6.2)), none]) (st := [.ref (gz q6.2)]) (σ := τ79) (stp_callV1 (n := 1) rfl rfl rfl ⟨Nat.le_of_ble_eq_true rfl, Nat.le_of_ble_eq_true rfl⟩ rfl h81 rfl) ((fX15_sum_ok (rP 12) 48 (rP_ok 12) _ _ _ h83).deep (Nat.le_of_ble_eq_true rfl)) ?_
              obtain ⟨h87, hf⟩ := grd hf
              obtain ⟨h88, hf⟩ := grd hf
              refine go_putr rfl rfl rfl h87 rfl h88 ?_
              refine go_n 1 (f := (111, [some (.ref x0), some (.ref (gz q6.2)), none], [.ref (gz q6.2)], (wr τ85 (gz q6.2) 4 (some v84)))) rfl ?_
              cases hf
              exact go_r rfl
            · try dsimp only at hf
              cases hf
              obtain ⟨ec, ea⟩ := e86
              exact go_ct (mid := 6922) (args := [.ref x0]) (pc := 107) (L := [some (.ref x0), some (.ref (gz q6.2)), none]) (st := [.ref (gz q6.2)]) (σ := τ79) (stp_callV1 (n := 1) rfl rfl rfl ⟨Nat.le_of_ble_eq_true rfl, Nat.le_of_ble_eq_true rfl⟩ rfl h81 rfl) ((fX15_sum_ok (rP 12) 48 (rP_ok 12) _ _ _ h83).deep (Nat.le_of_ble_eq_true rfl)) rfl
          · try dsimp only at hf
            cases hf
            obtain ⟨ec, ea⟩ := e80
            exact go_ct (mid := 6920) (args := [.ref x0, .ref 1000020]) (pc := 102) (L := [some (.ref x0), some (.ref (gz q6.2)), none]) (st := []) (σ := (wr τ71 (gz q6.2) 3 (some v70))) (stp_callV1 (n := 2) rfl rfl rfl ⟨Nat.le_of_ble_eq_true rfl, Nat.le_of_ble_eq_true rfl⟩ rfl h75 rfl) ((fX15_need_ok _ _ _ _ h77).deep (Nat.le_of_ble_eq_true rfl)) rfl
        · try dsimp only at hf
          cases hf
          obtain ⟨ec, ea⟩ := e72
          exact go_ct (mid := 6922) (args := [.ref x0]) (pc := 93) (L := [some (.ref x0), some (.ref (gz q6.2)), none]) (st := [.ref (gz q6.2)]) (σ := q65) (stp_callV1 (n := 1) rfl rfl rfl ⟨Nat.le_of_ble_eq_true rfl, Nat.le_of_ble_eq_true rfl⟩ rfl h67 rfl) ((fX15_sum_ok (rP 12) 48 (rP_ok 12) _ _ _ h69).deep (Nat.le_of_ble_eq_true rfl)) rfl
      · try dsimp only at hf
        cases hf
        obtain ⟨ec, ea⟩ := e64
        exact go_ct (mid := 6919) (args := [.ref x0, .int 0, .int 3]) (pc := 83) (L := [some (.ref x0), none, none]) (st := [.int 5, .ref (gz q6.2), .ref (gz q6.2)]) (σ := σ58) (stp_callV1 (n := 3) rfl rfl rfl ⟨Nat.le_of_ble_eq_true rfl, Nat.le_of_ble_eq_true rfl⟩ rfl h59 rfl) ((fX15_number_ok _ _ _ _ _ h61).deep (Nat.le_of_ble_eq_true rfl)) rfl
  · rw [if_neg h4] at hf
    refine go_if (t := 63) (f := 9) (L1 := [some (.ref x0), none, none]) (st1 := []) (σ1 := q2.2) rfl h4 ?_
    refine go_n 3 (f := (13, [some (.ref x0), none, none], [.int 7, .int 0, .ref x0], q2.2)) rfl ?_
    obtain ⟨h89, hf⟩ := grd hf
    obtain ⟨⟨v92 | e94, τ93⟩, h91, hf⟩ := bnd hf
    · try dsimp only at hf
      refine go_c (mid := 6919) (args := [.ref x0, .int 0, .int 7]) (pc := 16) (L := [some (.ref x0), none, none]) (st := []) (σ := q2.2) (stp_callV1 (n := 3) rfl rfl rfl ⟨Nat.le_of_ble_eq_true rfl, Nat.le_of_ble_eq_true rfl⟩ rfl h89 rfl) ((fX15_number_ok _ _ _ _ _ h91).deep (Nat.le_of_ble_eq_true rfl)) ?_
      refine go_n 1 (f := (17, [some (.ref x0), none, some (.int v92)], [], τ93)) rfl ?_
      obtain ⟨σ96, h95, hf⟩ := bnd hf
      refine go_new rfl rfl rfl h95 ?_
      refine go_n 8 (f := (30, [some (.ref x0), none, some (.int v92)], [.int 19, .int 0, .ref x0, .int (20 * v92), .int 1, .ref (gz τ93), .ref (gz τ93)], σ96)) rfl ?_
      obtain ⟨h97, hf⟩ := grd hf
      obtain ⟨⟨v100 | e102, τ101⟩, h99, hf⟩ := bnd hf
      · try dsimp only at hf
        refine go_c (mid := 6919) (args := [.ref x0, .int 0, .int 19]) (pc := 33) (L := [some (.ref x0), none, some (.int v92)]) (st := [.int (20 * v92), .int 1, .ref (gz τ93), .ref (gz τ93)]) (σ := σ96) (stp_callV1 (n := 3) rfl rfl rfl ⟨Nat.le_of_ble_eq_true rfl, Nat.le_of_ble_eq_true rfl⟩ rfl h97 rfl) ((fX15_number_ok _ _ _ _ _ h99).deep (Nat.le_of_ble_eq_true rfl)) ?_
        refine go_n 2 (f := (35, [some (.ref x0), none, some (.int v92)], [.int 0, .int ((20 * v92) + v100), .int 1, .ref (gz τ93), .ref (gz τ93)], τ101)) rfl ?_
        obtain ⟨q103, h104, hf⟩ := bnd hf
        refine go_c (mid := 7424) (args := [.ref (gz τ93), .int 1, .int ((20 * v92) + v100), .int 0]) (pc := 38) (L := [some (.ref x0), none, some (.int v92)]) (st := [.ref (gz τ93)]) (σ := τ101) rfl ((fX17_init_ok _ _ _ _ _ q103 h104).deep (Nat.le_of_ble_eq_true rfl)) ?_
        refine go_n 3 (f := (41, [some (.ref x0), some (.ref (gz τ93)), some (.int v92)], [.ref x0, .ref (gz τ93)], q103)) rfl ?_
        obtain ⟨h105, hf⟩ := grd hf
        obtain ⟨⟨v108 | e110, τ109⟩, h107, hf⟩ := bnd hf
        · try dsimp only at hf
          refine go_c (mid := 6922) (args := [.ref x0]) (pc := 44) (L := [some (.ref x0), some (.ref (gz τ93)), some (.int v92)]) (st := [.ref (gz τ93)]) (σ := q103) (stp_callV1 (n := 1) rfl rfl rfl ⟨Nat.le_of_ble_eq_true rfl, Nat.le_of_ble_eq_true rfl⟩ rfl h105 rfl) ((fX15_sum_ok (rP 12) 48 (rP_ok 12) _ _ _ h107).deep (Nat.le_of_ble_eq_true rfl)) ?_
          obtain ⟨h111, hf⟩ := grd hf
          obtain ⟨h112, hf⟩ := grd hf
          refine go_putr rfl rfl rfl h111 rfl h112 ?_
          refine go_n 2 (f := (50, [some (.ref x0), some (.ref (gz τ93)), some (.int v92)], [.ref 1000018, .ref x0], (wr τ109 (gz τ93) 3 (some v108)))) rfl ?_
          obtain ⟨h113, hf⟩ := grd hf
          obtain ⟨⟨v116 | e118, τ117⟩, h115, hf⟩ := bnd hf
          · try dsimp only at hf
            refine go_c (mid := 6920) (args := [.ref x0, .ref 1000018]) (pc := 53) (L := [some (.ref x0), some (.ref (gz τ93)), some (.int v92)]) (st := []) (σ := (wr τ109 (gz τ93) 3 (some v108))) (stp_callV1 (n := 2) rfl rfl rfl ⟨Nat.le_of_ble_eq_true rfl, Nat.le_of_ble_eq_true rfl⟩ rfl h113 rfl) ((fX15_need_ok _ _ _ _ h115).deep (Nat.le_of_ble_eq_true rfl)) ?_
            refine go_n 2 (f := (55, [some (.ref x0), some (.ref (gz τ93)), some (.int v92)], [.ref x0, .ref (gz τ93)], τ117)) rfl ?_
            obtain ⟨h119, hf⟩ := grd hf
            obtain ⟨⟨v122 | e124, τ123⟩, h121, hf⟩ := bnd hf
            · try dsimp only at hf
              refine go_c (mid := 6922) (args := [.ref x0]) (pc := 58) (L := [some (.ref x0), some (.ref (gz τ93)), some (.int v92)]) (st := [.ref (gz τ93)]) (σ := τ117) (stp_callV1 (n := 1) rfl rfl rfl ⟨Nat.le_of_ble_eq_true rfl, Nat.le_of_ble_eq_true rfl⟩ rfl h119 rfl) ((fX15_sum_ok (rP 12) 48 (rP_ok 12) _ _ _ h121).deep (Nat.le_of_ble_eq_true rfl)) ?_
              obtain ⟨h125, hf⟩ := grd hf
              obtain ⟨h126, hf⟩ := grd hf
              refine go_putr rfl rfl rfl h125 rfl h126 ?_
              refine go_n 1 (f := (62, [some (.ref x0), some (.ref (gz τ93)), some (.int v92)], [.ref (gz τ93)], (wr τ123 (gz τ93) 4 (some v122)))) rfl ?_
              cases hf
              exact go_r rfl
            · try dsimp only at hf
              cases hf
              obtain ⟨ec, ea⟩ := e124
              exact go_ct (mid := 6922) (args := [.ref x0]) (pc := 58) (L := [some (.ref x0), some (.ref (gz τ93)), some (.int v92)]) (st := [.ref (gz τ93)]) (σ := τ117) (stp_callV1 (n := 1) rfl rfl rfl ⟨Nat.le_of_ble_eq_true rfl, Nat.le_of_ble_eq_true rfl⟩ rfl h119 rfl) ((fX15_sum_ok (rP 12) 48 (rP_ok 12) _ _ _ h121).deep (Nat.le_of_ble_eq_true rfl)) rfl
          · try dsimp only at hf
            cases hf
            obtain ⟨ec, ea⟩ := e118
            exact go_ct (mid := 6920) (args := [.ref x0, .ref 1000018]) (pc := 53) (L := [some (.ref x0), some (.ref (gz τ93)), some (.int v92)]) (st := []) (σ := (wr τ109 (gz τ93) 3 (some v108))) (stp_callV1 (n := 2) rfl rfl rfl ⟨Nat.le_of_ble_eq_true rfl, Nat.le_of_ble_eq_true rfl⟩ rfl h113 rfl) ((fX15_need_ok _ _ _ _ h115).deep (Nat.le_of_ble_eq_true rfl)) rfl
        · try dsimp only at hf
          cases hf
          obtain ⟨ec, ea⟩ := e110
          exact go_ct (mid := 6922) (args := [.ref x0]) (pc := 44) (L := [some (.ref x0), some (.ref (gz τ93)), some (.int v92)]) (st := [.ref (gz τ93)]) (σ := q103) (stp_callV1 (n := 1) rfl rfl rfl ⟨Nat.le_of_ble_eq_true rfl, Nat.le_of_ble_eq_true rfl⟩ rfl h105 rfl) ((fX15_sum_ok (rP 12) 48 (rP_ok 12) _ _ _ h107).deep (Nat.le_of_ble_eq_true rfl)) rfl
      · try dsimp only at hf
        cases hf
        obtain ⟨ec, ea⟩ := e102
        exact go_ct (mid := 6919) (args := [.ref x0, .int 0, .int 19]) (pc := 33) (L := [some (.ref x0), none, some (.int v92)]) (st := [.int (20 * v92), .int 1, .ref (gz τ93), .ref (gz τ93)]) (σ := σ96) (stp_callV1 (n := 3) rfl rfl rfl ⟨Nat.le_of_ble_eq_true rfl, Nat.le_of_ble_eq_true rfl⟩ rfl h97 rfl) ((fX15_number_ok _ _ _ _ _ h99).deep (Nat.le_of_ble_eq_true rfl)) rfl
    · try dsimp only at hf
      cases hf
      obtain ⟨ec, ea⟩ := e94
      exact go_ct (mid := 6919) (args := [.ref x0, .int 0, .int 7]) (pc := 16) (L := [some (.ref x0), none, none]) (st := []) (σ := q2.2) (stp_callV1 (n := 3) rfl rfl rfl ⟨Nat.le_of_ble_eq_true rfl, Nat.le_of_ble_eq_true rfl⟩ rfl h89 rfl) ((fX15_number_ok _ _ _ _ _ h91).deep (Nat.le_of_ble_eq_true rfl)) rfl
/-! OldWeather$Reader.plain()LOldWeather$Test; -/
def fX15_plain_L2 (RQ : Nat → Sg → Option ((Nat ⊕ (Nat × Nat)) × Sg)) (x0 : Nat)  (rec2 : (Int32 × Sg) → Option ((Nat ⊕ (Nat × Nat)) × Sg)) (s : Int32 × Sg) : Option ((Nat ⊕ (Nat × Nat)) × Sg) :=
  match s with
  | (x1, σ) => if (kk σ x0) = 23 then (fX15_takes x0 1000028 σ).bind fun q2 => if q2.1 = 0 then if (kk q2.2 x0) = 23 then ((RQ x0 q2.2).bind fun q6 => match q6 with
  | (.inl v8, τ9) => if x1 = 0 then some (.inl v8, τ9) else (am_new τ9 (32, 0) 1).bind fun σ13 => (fX25_init (gz τ9) v8 σ13).bind fun q14 => some (.inl (gz τ9), q14)
  | (.inr e10, τ9) => some (.inr e10, τ9)) else none else ((fun (z17 : Int32) => rec2 (z17, q2.2)) ((if x1 ≠ 0 then 0 else 1) : Int32)) else none
set_option maxHeartbeats 1500000 in
theorem fX15_plain_L2_ok (RQ : Nat → Sg → Option ((Nat ⊕ (Nat × Nat)) × Sg)) (d : Nat) (hRQ : ∀ (x0 : Nat) (σ : Sg) (r : (Nat ⊕ (Nat × Nat)) × Sg), RQ x0 σ = some r → Cl true d 6932 [.ref x0] σ (am_outR r)) (x0 : Nat)   : ∀ (n : Nat) (x1 : Int32) (σ : Sg) (r : ((Nat ⊕ (Nat × Nat)) × Sg)), lp (fX15_plain_L2 RQ x0 ) n (x1, σ) = some r → Go true (d + 3) iX15_plain (2, [some (.ref x0), some (.int x1), none], [], σ) (am_outR r) := by
  intro n
  induction n with
  | zero => intro x1 σ r hf; cases hf
  | succ n ih =>
    intro x1 σ r hf
    have hf : fX15_plain_L2 RQ x0  (lp (fX15_plain_L2 RQ x0 ) n) (x1, σ) = some r := hf
    have hrec2 := ih
    generalize lp (fX15_plain_L2 RQ x0 ) n = rec2 at hf hrec2
    unfold fX15_plain_L2 at hf
    dsimp only at hf
    refine go_n 2 (f := (5, [some (.ref x0), some (.int x1), none], [.ref 1000028, .ref x0], σ)) rfl ?_
    obtain ⟨h1, hf⟩ := grd hf
    obtain ⟨q2, h3, hf⟩ := bnd hf
    refine go_c (mid := 6917) (args := [.ref x0, .ref 1000028]) (pc := 8) (L := [some (.ref x0), some (.int x1), none]) (st := []) (σ := σ) (stp_callV1 (n := 2) rfl rfl rfl ⟨Nat.le_of_ble_eq_true rfl, Nat.le_of_ble_eq_true rfl⟩ rfl h1 rfl) ((fX15_takes_ok _ _ _ q2 h3).deep (by omega)) ?_
    by_cases h4 : q2.1 = 0
    · rw [if_pos h4] at hf
      refine go_it (t := 24) (f := 11) (L1 := [some (.ref x0), some (.int x1), none]) (st1 := []) (σ1 := q2.2) rfl h4 ?_
      refine go_n 1 (f := (25, [some (.ref x0), some (.int x1), none], [.ref x0], q2.2)) rfl ?_
      obtain ⟨h5, hf⟩ := grd hf
      obtain ⟨⟨v8 | e10, τ9⟩, h7, hf⟩ := bnd hf
      · try dsimp only at hf
        refine go_c (mid := 6932) (args := [.ref x0]) (pc := 28) (L := [some (.ref x0), some (.int x1), none]) (st := []) (σ := q2.2) (stp_callV1 (n := 1) rfl rfl rfl ⟨Nat.le_of_ble_eq_true rfl, Nat.le_of_ble_eq_true rfl⟩ rfl h5 rfl) ((hRQ _ _ _ h7).deep (by omega)) ?_
        refine go_n 2 (f := (30, [some (.ref x0), some (.int x1), some (.ref v8)], [.int x1], τ9)) rfl ?_
        by_cases h11 : x1 = 0
        · rw [if_pos h11] at hf
          refine go_it (t := 44) (f := 33) (L1 := [some (.ref x0), some (.int x1), some (.ref v8)]) (st1 := []) (σ1 := τ9) rfl h11 ?_
          refine go_n 1 (f := (45, [some (.ref x0), some (.int x1), some (.ref v8)], [.ref v8], τ9)) rfl ?_
          refine go_e (L1 := [none, none, none]) rfl rfl ?_
          cases hf
          exact go_r rfl
        · rw [if_neg h11] at hf
          refine go_if (t := 44) (f := 33) (L1 := [some (.ref x0), some (.int x1), some (.ref v8)]) (st1 := []) (σ1 := τ9) rfl h11 ?_
          obtain ⟨σ13, h12, hf⟩ := bnd hf
          refine go_new rfl rfl rfl h12 ?_
          refine go_n 2 (f := (38, [some (.ref x0), some (.int x1), some (.ref v8)], [.ref v8, .ref (gz τ9), .ref (gz τ9)], σ13)) rfl ?_
          obtain ⟨q14, h15, hf⟩ := bnd hf
          refine go_c (mid := 9728) (args := [.ref (gz τ9), .ref v8]) (pc := 41) (L := [some (.ref x0), some (.int x1), some (.ref v8)]) (st := [.ref (gz τ9)]) (σ := σ13) rfl ((fX25_init_ok _ _ _ q14 h15).deep (by omega)) ?_
          refine go_n 1 (f := (45, [some (.ref x0), some (.int x1), some (.ref v8)], [.ref (gz τ9)], q14)) rfl ?_
          refine go_e (L1 := [none, none, none]) rfl rfl ?_
          cases hf
          exact go_r rfl
      · try dsimp only at hf
        cases hf
        obtain ⟨ec, ea⟩ := e10
        exact go_ct (mid := 6932) (args := [.ref x0]) (pc := 28) (L := [some (.ref x0), some (.int x1), none]) (st := []) (σ := q2.2) (stp_callV1 (n := 1) rfl rfl rfl ⟨Nat.le_of_ble_eq_true rfl, Nat.le_of_ble_eq_true rfl⟩ rfl h5 rfl) ((hRQ _ _ _ h7).deep (by omega)) rfl
    · rw [if_neg h4] at hf
      refine go_if (t := 24) (f := 11) (L1 := [some (.ref x0), some (.int x1), none]) (st1 := []) (σ1 := q2.2) rfl h4 ?_
      refine go_n 1 (f := (12, [some (.ref x0), some (.int x1), none], [.int x1], q2.2)) rfl ?_
      refine go_m (f := (20, [some (.ref x0), none, none], [.int ((if x1 ≠ 0 then 0 else 1) : Int32)], q2.2)) ?_ (fun hJ18 => ?_)
      · generalize hz17 : ((if x1 ≠ 0 then 0 else 1) : Int32) = z17 at hf ⊢
        have oz17 : am_ok 3 z17 = true := hz17 ▸ (okb rfl rfl)
        try dsimp only at hf
        refine go_n 2 (f := (2, [some (.ref x0), some (.int z17), none], [], q2.2)) rfl ?_
        exact hrec2 _ _ _ hf
      · by_cases h16 : x1 ≠ 0
        · refine go_it (t := 19) (f := 15) (L1 := [some (.ref x0), some (.int x1), none]) (st1 := []) (σ1 := q2.2) rfl h16 ?_
          refine go_n 1 (f := (20, [some (.ref x0), some (.int x1), none], [.int 0], q2.2)) rfl ?_
          refine go_e (L1 := [some (.ref x0), none, none]) rfl rfl ?_
          simp only [if_pos h16] at hJ18
          first | exact hJ18 | (simp only [if_pos h16]; exact hJ18)
        · refine go_if (t := 19) (f := 15) (L1 := [some (.ref x0), some (.int x1), none]) (st1 := []) (σ1 := q2.2) rfl h16 ?_
          refine go_n 2 (f := (20, [some (.ref x0), some (.int x1), none], [.int 1], q2.2)) rfl ?_
          refine go_e (L1 := [some (.ref x0), none, none]) rfl rfl ?_
          simp only [if_neg h16] at hJ18
          first | exact hJ18 | (simp only [if_neg h16]; exact hJ18)
def fX15_plain (RQ : Nat → Sg → Option ((Nat ⊕ (Nat × Nat)) × Sg)) (x0 : Nat) (σ : Sg) : Option ((Nat ⊕ (Nat × Nat)) × Sg) :=
  lp (fX15_plain_L2 RQ x0 ) N0 (0, σ)
set_option maxHeartbeats 1500000 in
theorem fX15_plain_ok (RQ : Nat → Sg → Option ((Nat ⊕ (Nat × Nat)) × Sg)) (d : Nat) (hRQ : ∀ (x0 : Nat) (σ : Sg) (r : (Nat ⊕ (Nat × Nat)) × Sg), RQ x0 σ = some r → Cl true d 6932 [.ref x0] σ (am_outR r)) (x0 : Nat) (σ : Sg) (r : ((Nat ⊕ (Nat × Nat)) × Sg)) (hf : fX15_plain RQ x0 σ = some r) : Cl true (d + 3) 6931 [.ref x0] σ (am_outR r) := by
  refine ⟨iX15_plain, rfl, Nat.le_of_ble_eq_true rfl, Nat.le_of_ble_eq_true rfl, ?_⟩
  show Go true (d + 3) iX15_plain (0, [some (.ref x0), none, none], [], σ) (am_outR r)
  unfold fX15_plain at hf
  refine go_n 2 (f := (2, [some (.ref x0), some (.int 0), none], [], σ)) rfl ?_
  exact fX15_plain_L2_ok _ _ hRQ _   N0 _ _ _ hf
/-! OldWeather$Reader.both()LOldWeather$Test; -/
def fX15_both_L34 (RQ : Nat → Sg → Option ((Nat ⊕ (Nat × Nat)) × Sg)) (x0 : Nat) (x2 : Nat)  (rec34 : Sg → Option ((Nat ⊕ (Nat × Nat)) × Sg)) (σ : Sg) : Option ((Nat ⊕ (Nat × Nat)) × Sg) :=
  if (kk σ x0) = 23 then (fX15_takes x0 1000034 σ).bind fun q22 => if q22.1 = 0 then some (.inl x2, q22.2) else if [33].elem (kk q22.2 x2) = true then (match (rf q22.2 x2 1) with
  | some a25 => if (kk q22.2 x0) = 23 then ((fX15_plain RQ x0 q22.2).bind fun q29 => match q29 with
  | (.inl v31, τ32) => if (kk τ32 a25) = 16 then (fJ2_add a25 v31 τ32).bind fun q35 => rec34 q35.2 else none
  | (.inr e33, τ32) => some (.inr e33, τ32)) else none
  | none => none) else none else none
set_option maxHeartbeats 1500000 in
theorem fX15_both_L34_ok (RQ : Nat → Sg → Option ((Nat ⊕ (Nat × Nat)) × Sg)) (d : Nat) (hRQ : ∀ (x0 : Nat) (σ : Sg) (r : (Nat ⊕ (Nat × Nat)) × Sg), RQ x0 σ = some r → Cl true d 6932 [.ref x0] σ (am_outR r)) (x0 : Nat) (x2 : Nat)   : ∀ (n : Nat) (σ : Sg) (r : ((Nat ⊕ (Nat × Nat)) × Sg)), lp (fX15_both_L34 RQ x0 x2 ) n σ = some r → Go true (d + 6) iX15_both (34, [some (.ref x0), none, some (.ref x2)], [], σ) (am_outR r) := by
  intro n
  induction n with
  | zero => intro σ r hf; cases hf
  | succ n ih =>
    intro σ r hf
    have hf : fX15_both_L34 RQ x0 x2  (lp (fX15_both_L34 RQ x0 x2 ) n) σ = some r := hf
    have hrec34 := ih
    generalize lp (fX15_both_L34 RQ x0 x2 ) n = rec34 at hf hrec34
    unfold fX15_both_L34 at hf
    refine go_n 2 (f := (37, [some (.ref x0), none, some (.ref x2)], [.ref 1000034, .ref x0], σ)) rfl ?_
    obtain ⟨h21, hf⟩ := grd hf
    obtain ⟨q22, h23, hf⟩ := bnd hf
    refine go_c (mid := 6917) (args := [.ref x0, .ref 1000034]) (pc := 40) (L := [some (.ref x0), none, some (.ref x2)]) (st := []) (σ := σ) (stp_callV1 (n := 2) rfl rfl rfl ⟨Nat.le_of_ble_eq_true rfl, Nat.le_of_ble_eq_true rfl⟩ rfl h21 rfl) ((fX15_takes_ok _ _ _ q22 h23).deep (by omega)) ?_
    by_cases h24 : q22.1 = 0
    · rw [if_pos h24] at hf
      refine go_it (t := 58) (f := 43) (L1 := [some (.ref x0), none, some (.ref x2)]) (st1 := []) (σ1 := q22.2) rfl h24 ?_
      refine go_n 1 (f := (59, [some (.ref x0), none, some (.ref x2)], [.ref x2], q22.2)) rfl ?_
      cases hf
      exact go_r rfl
    · rw [if_neg h24] at hf
      refine go_if (t := 58) (f := 43) (L1 := [some (.ref x0), none, some (.ref x2)]) (st1 := []) (σ1 := q22.2) rfl h24 ?_
      refine go_n 1 (f := (44, [some (.ref x0), none, some (.ref x2)], [.ref x2], q22.2)) rfl ?_
      obtain ⟨h26, hf⟩ := grd hf
      refine go_get rfl rfl rfl h26 ?_
      show Go true (d + 6) iX15_both (47, [some (.ref x0), none, some (.ref x2)], va_rf (rf q22.2 x2 1) :: [], q22.2) _
      generalize hR27 : (rf q22.2 x2 1) = h37 at hf ⊢
      cases h37 with
      | none =>
        cases hf
      | some a25 =>
        refine go_n 1 (f := (48, [some (.ref x0), none, some (.ref x2)], [.ref x0, .ref a25], q22.2)) rfl ?_
        obtain ⟨h28, hf⟩ := grd hf
        obtain ⟨⟨v31 | e33, τ32⟩, h30, hf⟩ := bnd hf
        · try dsimp only at hf
          refine go_c (mid := 6931) (args := [.ref x0]) (pc := 51) (L := [some (.ref x0), none, some (.ref x2)]) (st := [.ref a25]) (σ := q22.2) (stp_callV1 (n := 1) rfl rfl rfl ⟨Nat.le_of_ble_eq_true rfl, Nat.le_of_ble_eq_true rfl⟩ rfl h28 rfl) ((fX15_plain_ok RQ d hRQ _ _ _ h30).deep (by omega)) ?_
          obtain ⟨h34, hf⟩ := grd hf
          obtain ⟨q35, h36, hf⟩ := bnd hf
          refine go_c (mid := 2822) (args := [.ref a25, .ref v31]) (pc := 54) (L := [some (.ref x0), none, some (.ref x2)]) (st := []) (σ := τ32) (stp_callV1 (n := 2) rfl rfl rfl ⟨Nat.le_of_ble_eq_true rfl, Nat.le_of_ble_eq_true rfl⟩ rfl h34 rfl) ((fJ2_add_ok _ _ _ q35 h36).deep (by omega)) ?_
          refine go_n 2 (f := (34, [some (.ref x0), none, some (.ref x2)], [], q35.2)) rfl ?_
          exact hrec34 _ _ hf
        · try dsimp only at hf
          cases hf
          obtain ⟨ec, ea⟩ := e33
          exact go_ct (mid := 6931) (args := [.ref x0]) (pc := 51) (L := [some (.ref x0), none, some (.ref x2)]) (st := [.ref a25]) (σ := q22.2) (stp_callV1 (n := 1) rfl rfl rfl ⟨Nat.le_of_ble_eq_true rfl, Nat.le_of_ble_eq_true rfl⟩ rfl h28 rfl) ((fX15_plain_ok RQ d hRQ _ _ _ h30).deep (by omega)) rfl
def fX15_both (RQ : Nat → Sg → Option ((Nat ⊕ (Nat × Nat)) × Sg)) (x0 : Nat) (σ : Sg) : Option ((Nat ⊕ (Nat × Nat)) × Sg) :=
  if (kk σ x0) = 23 then ((fX15_plain RQ x0 σ).bind fun q2 => match q2 with
  | (.inl v4, τ5) => if (kk τ5 x0) = 23 then (fX15_is x0 1000034 τ5).bind fun q8 => if q8 ≠ 0 then (am_new τ5 (33, 0) 2).bind fun σ12 => (fX26_init (gz τ5) 1 σ12).bind fun q13 => if [33].elem (kk q13 (gz τ5)) = true then (match (rf q13 (gz τ5) 1) with
  | some a15 => if (kk q13 a15) = 16 then (fJ2_add a15 v4 q13).bind fun q19 => lp (fX15_both_L34 RQ x0 (gz τ5) ) N0 q19.2 else none
  | none => none) else none else some (.inl v4, τ5) else none
  | (.inr e6, τ5) => some (.inr e6, τ5)) else none
set_option maxHeartbeats 1500000 in
theorem fX15_both_ok (RQ : Nat → Sg → Option ((Nat ⊕ (Nat × Nat)) × Sg)) (d : Nat) (hRQ : ∀ (x0 : Nat) (σ : Sg) (r : (Nat ⊕ (Nat × Nat)) × Sg), RQ x0 σ = some r → Cl true d 6932 [.ref x0] σ (am_outR r)) (x0 : Nat) (σ : Sg) (r : ((Nat ⊕ (Nat × Nat)) × Sg)) (hf : fX15_both RQ x0 σ = some r) : Cl true (d + 6) 6930 [.ref x0] σ (am_outR r) := by
  refine ⟨iX15_both, rfl, Nat.le_of_ble_eq_true rfl, Nat.le_of_ble_eq_true rfl, ?_⟩
  show Go true (d + 6) iX15_both (0, [some (.ref x0), none, none], [], σ) (am_outR r)
  unfold fX15_both at hf
  refine go_n 1 (f := (1, [some (.ref x0), none, none], [.ref x0], σ)) rfl ?_
  obtain ⟨h1, hf⟩ := grd hf
  obtain ⟨⟨v4 | e6, τ5⟩, h3, hf⟩ := bnd hf
  · try dsimp only at hf
    refine go_c (mid := 6931) (args := [.ref x0]) (pc := 4) (L := [some (.ref x0), none, none]) (st := []) (σ := σ) (stp_callV1 (n := 1) rfl rfl rfl ⟨Nat.le_of_ble_eq_true rfl, Nat.le_of_ble_eq_true rfl⟩ rfl h1 rfl) ((fX15_plain_ok RQ d hRQ _ _ _ h3).deep (by omega)) ?_
    refine go_n 3 (f := (8, [some (.ref x0), some (.ref v4), none], [.ref 1000034, .ref x0], τ5)) rfl ?_
    obtain ⟨h7, hf⟩ := grd hf
    obtain ⟨q8, h9, hf⟩ := bnd hf
    refine go_c (mid := 6918) (args := [.ref x0, .ref 1000034]) (pc := 11) (L := [some (.ref x0), some (.ref v4), none]) (st := []) (σ := τ5) (stp_callV1 (n := 2) rfl rfl rfl ⟨Nat.le_of_ble_eq_true rfl, Nat.le_of_ble_eq_true rfl⟩ rfl h7 rfl) ((fX15_is_ok _ _ _ q8 h9).deep (by omega)) ?_
    by_cases h10 : q8 ≠ 0
    · rw [if_pos h10] at hf
      refine go_it (t := 16) (f := 14) (L1 := [some (.ref x0), some (.ref v4), none]) (st1 := []) (σ1 := τ5) rfl h10 ?_
      obtain ⟨σ12, h11, hf⟩ := bnd hf
      refine go_new rfl rfl rfl h11 ?_
      refine go_n 2 (f := (21, [some (.ref x0), some (.ref v4), none], [.int 1, .ref (gz τ5), .ref (gz τ5)], σ12)) rfl ?_
      obtain ⟨q13, h14, hf⟩ := bnd hf
      refine go_c (mid := 9984) (args := [.ref (gz τ5), .int 1]) (pc := 24) (L := [some (.ref x0), some (.ref v4), none]) (st := [.ref (gz τ5)]) (σ := σ12) rfl ((fX26_init_ok _ _ _ q13 h14).deep (by omega)) ?_
      refine go_n 2 (f := (26, [some (.ref x0), some (.ref v4), some (.ref (gz τ5))], [.ref (gz τ5)], q13)) rfl ?_
      obtain ⟨h16, hf⟩ := grd hf
      refine go_get rfl rfl rfl h16 ?_
      show Go true (d + 6) iX15_both (29, [some (.ref x0), some (.ref v4), some (.ref (gz τ5))], va_rf (rf q13 (gz τ5) 1) :: [], q13) _
      generalize hR17 : (rf q13 (gz τ5) 1) = h38 at hf ⊢
      cases h38 with
      | none =>
        cases hf
      | some a15 =>
        refine go_n 1 (f := (30, [some (.ref x0), some (.ref v4), some (.ref (gz τ5))], [.ref v4, .ref a15], q13)) rfl ?_
        obtain ⟨h18, hf⟩ := grd hf
        obtain ⟨q19, h20, hf⟩ := bnd hf
        refine go_c (mid := 2822) (args := [.ref a15, .ref v4]) (pc := 33) (L := [some (.ref x0), some (.ref v4), some (.ref (gz τ5))]) (st := []) (σ := q13) (stp_callV1 (n := 2) rfl rfl rfl ⟨Nat.le_of_ble_eq_true rfl, Nat.le_of_ble_eq_true rfl⟩ rfl h18 rfl) ((fJ2_add_ok _ _ _ q19 h20).deep (by omega)) ?_
        refine go_n 1 (f := (34, [some (.ref x0), some (.ref v4), some (.ref (gz τ5))], [], q19.2)) rfl ?_
        refine go_e (L1 := [some (.ref x0), none, some (.ref (gz τ5))]) rfl rfl ?_
        exact fX15_both_L34_ok _ _ hRQ _ _   N0 _ _ hf
    · rw [if_neg h10] at hf
      refine go_if (t := 16) (f := 14) (L1 := [some (.ref x0), some (.ref v4), none]) (st1 := []) (σ1 := τ5) rfl h10 ?_
      refine go_n 1 (f := (15, [some (.ref x0), some (.ref v4), none], [.ref v4], τ5)) rfl ?_
      cases hf
      exact go_r rfl
  · try dsimp only at hf
    cases hf
    obtain ⟨ec, ea⟩ := e6
    exact go_ct (mid := 6931) (args := [.ref x0]) (pc := 4) (L := [some (.ref x0), none, none]) (st := []) (σ := σ) (stp_callV1 (n := 1) rfl rfl rfl ⟨Nat.le_of_ble_eq_true rfl, Nat.le_of_ble_eq_true rfl⟩ rfl h1 rfl) ((fX15_plain_ok RQ d hRQ _ _ _ h3).deep (by omega)) rfl
/-! OldWeather$Reader.test()LOldWeather$Test; -/
def fX15_test_L34 (RQ : Nat → Sg → Option ((Nat ⊕ (Nat × Nat)) × Sg)) (x0 : Nat) (x2 : Nat)  (rec34 : Sg → Option ((Nat ⊕ (Nat × Nat)) × Sg)) (σ : Sg) : Option ((Nat ⊕ (Nat × Nat)) × Sg) :=
  if (kk σ x0) = 23 then (fX15_takes x0 1000035 σ).bind fun q22 => if q22.1 = 0 then some (.inl x2, q22.2) else if [33].elem (kk q22.2 x2) = true then (match (rf q22.2 x2 1) with
  | some a25 => if (kk q22.2 x0) = 23 then ((fX15_both RQ x0 q22.2).bind fun q29 => match q29 with
  | (.inl v31, τ32) => if (kk τ32 a25) = 16 then (fJ2_add a25 v31 τ32).bind fun q35 => rec34 q35.2 else none
  | (.inr e33, τ32) => some (.inr e33, τ32)) else none
  | none => none) else none else none
set_option maxHeartbeats 1500000 in
theorem fX15_test_L34_ok (RQ : Nat → Sg → Option ((Nat ⊕ (Nat × Nat)) × Sg)) (d : Nat) (hRQ : ∀ (x0 : Nat) (σ : Sg) (r : (Nat ⊕ (Nat × Nat)) × Sg), RQ x0 σ = some r → Cl true d 6932 [.ref x0] σ (am_outR r)) (x0 : Nat) (x2 : Nat)   : ∀ (n : Nat) (σ : Sg) (r : ((Nat ⊕ (Nat × Nat)) × Sg)), lp (fX15_test_L34 RQ x0 x2 ) n σ = some r → Go true (d + 7) iX15_test (34, [some (.ref x0), none, some (.ref x2)], [], σ) (am_outR r) := by
  intro n
  induction n with
  | zero => intro σ r hf; cases hf
  | succ n ih =>
    intro σ r hf
    have hf : fX15_test_L34 RQ x0 x2  (lp (fX15_test_L34 RQ x0 x2 ) n) σ = some r := hf
    have hrec34 := ih
    generalize lp (fX15_test_L34 RQ x0 x2 ) n = rec34 at hf hrec34
    unfold fX15_test_L34 at hf
    refine go_n 2 (f := (37, [some (.ref x0), none, some (.ref x2)], [.ref 1000035, .ref x0], σ)) rfl ?_
    obtain ⟨h21, hf⟩ := grd hf
    obtain ⟨q22, h23, hf⟩ := bnd hf
    refine go_c (mid := 6917) (args := [.ref x0, .ref 1000035]) (pc := 40) (L := [some (.ref x0), none, some (.ref x2)]) (st := []) (σ := σ) (stp_callV1 (n := 2) rfl rfl rfl ⟨Nat.le_of_ble_eq_true rfl, Nat.le_of_ble_eq_true rfl⟩ rfl h21 rfl) ((fX15_takes_ok _ _ _ q22 h23).deep (by omega)) ?_
    by_cases h24 : q22.1 = 0
    · rw [if_pos h24] at hf
      refine go_it (t := 58) (f := 43) (L1 := [some (.ref x0), none, some (.ref x2)]) (st1 := []) (σ1 := q22.2) rfl h24 ?_
      refine go_n 1 (f := (59, [some (.ref x0), none, some (.ref x2)], [.ref x2], q22.2)) rfl ?_
      cases hf
      exact go_r rfl
    · rw [if_neg h24] at hf
      refine go_if (t := 58) (f := 43) (L1 := [some (.ref x0), none, some (.ref x2)]) (st1 := []) (σ1 := q22.2) rfl h24 ?_
      refine go_n 1 (f := (44, [some (.ref x0), none, some (.ref x2)], [.ref x2], q22.2)) rfl ?_
      obtain ⟨h26, hf⟩ := grd hf
      refine go_get rfl rfl rfl h26 ?_
      show Go true (d + 7) iX15_test (47, [some (.ref x0), none, some (.ref x2)], va_rf (rf q22.2 x2 1) :: [], q22.2) _
      generalize hR27 : (rf q22.2 x2 1) = h37 at hf ⊢
      cases h37 with
      | none =>
        cases hf
      | some a25 =>
        refine go_n 1 (f := (48, [some (.ref x0), none, some (.ref x2)], [.ref x0, .ref a25], q22.2)) rfl ?_
        obtain ⟨h28, hf⟩ := grd hf
        obtain ⟨⟨v31 | e33, τ32⟩, h30, hf⟩ := bnd hf
        · try dsimp only at hf
          refine go_c (mid := 6930) (args := [.ref x0]) (pc := 51) (L := [some (.ref x0), none, some (.ref x2)]) (st := [.ref a25]) (σ := q22.2) (stp_callV1 (n := 1) rfl rfl rfl ⟨Nat.le_of_ble_eq_true rfl, Nat.le_of_ble_eq_true rfl⟩ rfl h28 rfl) ((fX15_both_ok RQ d hRQ _ _ _ h30).deep (by omega)) ?_
          obtain ⟨h34, hf⟩ := grd hf
          obtain ⟨q35, h36, hf⟩ := bnd hf
          refine go_c (mid := 2822) (args := [.ref a25, .ref v31]) (pc := 54) (L := [some (.ref x0), none, some (.ref x2)]) (st := []) (σ := τ32) (stp_callV1 (n := 2) rfl rfl rfl ⟨Nat.le_of_ble_eq_true rfl, Nat.le_of_ble_eq_true rfl⟩ rfl h34 rfl) ((fJ2_add_ok _ _ _ q35 h36).deep (by omega)) ?_
          refine go_n 2 (f := (34, [some (.ref x0), none, some (.ref x2)], [], q35.2)) rfl ?_
          exact hrec34 _ _ hf
        · try dsimp only at hf
          cases hf
          obtain ⟨ec, ea⟩ := e33
          exact go_ct (mid := 6930) (args := [.ref x0]) (pc := 51) (L := [some (.ref x0), none, some (.ref x2)]) (st := [.ref a25]) (σ := q22.2) (stp_callV1 (n := 1) rfl rfl rfl ⟨Nat.le_of_ble_eq_true rfl, Nat.le_of_ble_eq_true rfl⟩ rfl h28 rfl) ((fX15_both_ok RQ d hRQ _ _ _ h30).deep (by omega)) rfl
def fX15_test (RQ : Nat → Sg → Option ((Nat ⊕ (Nat × Nat)) × Sg)) (x0 : Nat) (σ : Sg) : Option ((Nat ⊕ (Nat × Nat)) × Sg) :=
  if (kk σ x0) = 23 then ((fX15_both RQ x0 σ).bind fun q2 => match q2 with
  | (.inl v4, τ5) => if (kk τ5 x0) = 23 then (fX15_is x0 1000035 τ5).bind fun q8 => if q8 ≠ 0 then (am_new τ5 (33, 0) 2).bind fun σ12 => (fX26_init (gz τ5) 0 σ12).bind fun q13 => if [33].elem (kk q13 (gz τ5)) = true then (match (rf q13 (gz τ5) 1) with
  | some a15 => if (kk q13 a15) = 16 then (fJ2_add a15 v4 q13).bind fun q19 => lp (fX15_test_L34 RQ x0 (gz τ5) ) N0 q19.2 else none
  | none => none) else none else some (.inl v4, τ5) else none
  | (.inr e6, τ5) => some (.inr e6, τ5)) else none
set_option maxHeartbeats 1500000 in
theorem fX15_test_ok (RQ : Nat → Sg → Option ((Nat ⊕ (Nat × Nat)) × Sg)) (d : Nat) (hRQ : ∀ (x0 : Nat) (σ : Sg) (r : (Nat ⊕ (Nat × Nat)) × Sg), RQ x0 σ = some r → Cl true d 6932 [.ref x0] σ (am_outR r)) (x0 : Nat) (σ : Sg) (r : ((Nat ⊕ (Nat × Nat)) × Sg)) (hf : fX15_test RQ x0 σ = some r) : Cl true (d + 7) 6929 [.ref x0] σ (am_outR r) := by
  refine ⟨iX15_test, rfl, Nat.le_of_ble_eq_true rfl, Nat.le_of_ble_eq_true rfl, ?_⟩
  show Go true (d + 7) iX15_test (0, [some (.ref x0), none, none], [], σ) (am_outR r)
  unfold fX15_test at hf
  refine go_n 1 (f := (1, [some (.ref x0), none, none], [.ref x0], σ)) rfl ?_
  obtain ⟨h1, hf⟩ := grd hf
  obtain ⟨⟨v4 | e6, τ5⟩, h3, hf⟩ := bnd hf
  · try dsimp only at hf
    refine go_c (mid := 6930) (args := [.ref x0]) (pc := 4) (L := [some (.ref x0), none, none]) (st := []) (σ := σ) (stp_callV1 (n := 1) rfl rfl rfl ⟨Nat.le_of_ble_eq_true rfl, Nat.le_of_ble_eq_true rfl⟩ rfl h1 rfl) ((fX15_both_ok RQ d hRQ _ _ _ h3).deep (by omega)) ?_
    refine go_n 3 (f := (8, [some (.ref x0), some (.ref v4), none], [.ref 1000035, .ref x0], τ5)) rfl ?_
    obtain ⟨h7, hf⟩ := grd hf
    obtain ⟨q8, h9, hf⟩ := bnd hf
    refine go_c (mid := 6918) (args := [.ref x0, .ref 1000035]) (pc := 11) (L := [some (.ref x0), some (.ref v4), none]) (st := []) (σ := τ5) (stp_callV1 (n := 2) rfl rfl rfl ⟨Nat.le_of_ble_eq_true rfl, Nat.le_of_ble_eq_true rfl⟩ rfl h7 rfl) ((fX15_is_ok _ _ _ q8 h9).deep (by omega)) ?_
    by_cases h10 : q8 ≠ 0
    · rw [if_pos h10] at hf
      refine go_it (t := 16) (f := 14) (L1 := [some (.ref x0), some (.ref v4), none]) (st1 := []) (σ1 := τ5) rfl h10 ?_
      obtain ⟨σ12, h11, hf⟩ := bnd hf
      refine go_new rfl rfl rfl h11 ?_
      refine go_n 2 (f := (21, [some (.ref x0), some (.ref v4), none], [.int 0, .ref (gz τ5), .ref (gz τ5)], σ12)) rfl ?_
      obtain ⟨q13, h14, hf⟩ := bnd hf
      refine go_c (mid := 9984) (args := [.ref (gz τ5), .int 0]) (pc := 24) (L := [some (.ref x0), some (.ref v4), none]) (st := [.ref (gz τ5)]) (σ := σ12) rfl ((fX26_init_ok _ _ _ q13 h14).deep (by omega)) ?_
      refine go_n 2 (f := (26, [some (.ref x0), some (.ref v4), some (.ref (gz τ5))], [.ref (gz τ5)], q13)) rfl ?_
      obtain ⟨h16, hf⟩ := grd hf
      refine go_get rfl rfl rfl h16 ?_
      show Go true (d + 7) iX15_test (29, [some (.ref x0), some (.ref v4), some (.ref (gz τ5))], va_rf (rf q13 (gz τ5) 1) :: [], q13) _
      generalize hR17 : (rf q13 (gz τ5) 1) = h38 at hf ⊢
      cases h38 with
      | none =>
        cases hf
      | some a15 =>
        refine go_n 1 (f := (30, [some (.ref x0), some (.ref v4), some (.ref (gz τ5))], [.ref v4, .ref a15], q13)) rfl ?_
        obtain ⟨h18, hf⟩ := grd hf
        obtain ⟨q19, h20, hf⟩ := bnd hf
        refine go_c (mid := 2822) (args := [.ref a15, .ref v4]) (pc := 33) (L := [some (.ref x0), some (.ref v4), some (.ref (gz τ5))]) (st := []) (σ := q13) (stp_callV1 (n := 2) rfl rfl rfl ⟨Nat.le_of_ble_eq_true rfl, Nat.le_of_ble_eq_true rfl⟩ rfl h18 rfl) ((fJ2_add_ok _ _ _ q19 h20).deep (by omega)) ?_
        refine go_n 1 (f := (34, [some (.ref x0), some (.ref v4), some (.ref (gz τ5))], [], q19.2)) rfl ?_
        refine go_e (L1 := [some (.ref x0), none, some (.ref (gz τ5))]) rfl rfl ?_
        exact fX15_test_L34_ok _ _ hRQ _ _   N0 _ _ hf
    · rw [if_neg h10] at hf
      refine go_if (t := 16) (f := 14) (L1 := [some (.ref x0), some (.ref v4), none]) (st1 := []) (σ1 := τ5) rfl h10 ?_
      refine go_n 1 (f := (15, [some (.ref x0), some (.ref v4), none], [.ref v4], τ5)) rfl ?_
      cases hf
      exact go_r rfl
  · try dsimp only at hf
    cases hf
    obtain ⟨ec, ea⟩ := e6
    exact go_ct (mid := 6930) (args := [.ref x0]) (pc := 4) (L := [some (.ref x0), none, none]) (st := []) (σ := σ) (stp_callV1 (n := 1) rfl rfl rfl ⟨Nat.le_of_ble_eq_true rfl, Nat.le_of_ble_eq_true rfl⟩ rfl h1 rfl) ((fX15_both_ok RQ d hRQ _ _ _ h3).deep (by omega)) rfl
/-! OldWeather$Reader.positive()LOldWeather$Test; -/
def fX15_positive_J80 (RQ : Nat → Sg → Option ((Nat ⊕ (Nat × Nat)) × Sg)) (x0 : Nat) (x1 : Nat)  (σ : Sg) : Option ((Nat ⊕ (Nat × Nat)) × Sg) :=
  if [23].elem (kk σ x0) = true then (match (rf σ x0 0) with
  | some a15 => if [23].elem (kk σ x0) = true then if (kk σ a15) = 3 then if inb (gi σ x0 3) (kn σ a15) then if (kk σ x0) = 23 then (fX15_next x0 σ).bind fun q22 => (am_new q22 (31, 0) 3).bind fun σ25 => if (kk σ25 x0) = 23 then ((fX15_sum (rP 12) x0 σ25).bind fun q27 => match q27 with
  | (.inl v29, τ30) => (fX24_init (gz q22) ((gi σ a15 (gi σ x0 3).toNatClampNeg).toUInt32 % 65536).toInt32 x1 v29 τ30).bind fun q32 => some (.inl (gz q22), q32)
  | (.inr e31, τ30) => some (.inr e31, τ30)) else none else none else none else none else none
  | none => none) else none
set_option maxHeartbeats 1500000 in
theorem fX15_positive_J80_ok (RQ : Nat → Sg → Option ((Nat ⊕ (Nat × Nat)) × Sg)) (d : Nat) (hRQ : ∀ (x0 : Nat) (σ : Sg) (r : (Nat ⊕ (Nat × Nat)) × Sg), RQ x0 σ = some r → Cl true d 6932 [.ref x0] σ (am_outR r)) (x0 : Nat) (x1 : Nat)  (σ : Sg)  (r : ((Nat ⊕ (Nat × Nat)) × Sg)) (hf : fX15_positive_J80 RQ x0 x1  σ = some r) : Go true (d + 52) iX15_positive (80, [some (.ref x0), some (.ref x1), none], [], σ) (am_outR r) := by
  unfold fX15_positive_J80 at hf
  refine go_n 1 (f := (81, [some (.ref x0), some (.ref x1), none], [.ref x0], σ)) rfl ?_
  obtain ⟨h16, hf⟩ := grd hf
  refine go_get rfl rfl rfl h16 ?_
  show Go true (d + 52) iX15_positive (84, [some (.ref x0), some (.ref x1), none], va_rf (rf σ x0 0) :: [], σ) _
  generalize hR17 : (rf σ x0 0) = h34 at hf ⊢
  cases h34 with
  | none =>
    cases hf
  | some a15 =>
    refine go_n 1 (f := (85, [some (.ref x0), some (.ref x1), none], [.ref x0, .ref a15], σ)) rfl ?_
    obtain ⟨h18, hf⟩ := grd hf
    refine go_get rfl rfl rfl h18 ?_
    obtain ⟨h19, hf⟩ := grd hf
    obtain ⟨h20, hf⟩ := grd hf
    refine go_bald rfl rfl (Or.inl h19) h20 ?_
    refine go_n 3 (f := (92, [some (.ref x0), some (.ref x1), some (.int ((gi σ a15 (gi σ x0 3).toNatClampNeg).toUInt32 % 65536).toInt32)], [.ref x0], σ)) rfl ?_
    obtain ⟨h21, hf⟩ := grd hf
    obtain ⟨q22, h23, hf⟩ := bnd hf
    refine go_c (mid := 6914) (args := [.ref x0]) (pc := 95) (L := [some (.ref x0), some (.ref x1), some (.int ((gi σ a15 (gi σ x0 3).toNatClampNeg).toUInt32 % 65536).toInt32)]) (st := []) (σ := σ) (stp_callV1 (n := 1) rfl rfl rfl ⟨Nat.le_of_ble_eq_true rfl, Nat.le_of_ble_eq_true rfl⟩ rfl h21 rfl) ((fX15_next_ok _ _ q22 h23).deep (by omega)) ?_
    obtain ⟨σ25, h24, hf⟩ := bnd hf
    refine go_new rfl rfl rfl h24 ?_
    refine go_n 4 (f := (102, [some (.ref x0), some (.ref x1), some (.int ((gi σ a15 (gi σ x0 3).toNatClampNeg).toUInt32 % 65536).toInt32)], [.ref x0, .ref x1, .int ((gi σ a15 (gi σ x0 3).toNatClampNeg).toUInt32 % 65536).toInt32, .ref (gz q22), .ref (gz q22)], σ25)) rfl ?_
    obtain ⟨h26, hf⟩ := grd hf
    obtain ⟨⟨v29 | e31, τ30⟩, h28, hf⟩ := bnd hf
    · try dsimp only at hf
      refine go_c (mid := 6922) (args := [.ref x0]) (pc := 105) (L := [some (.ref x0), some (.ref x1), some (.int ((gi σ a15 (gi σ x0 3).toNatClampNeg).toUInt32 % 65536).toInt32)]) (st := [.ref x1, .int ((gi σ a15 (gi σ x0 3).toNatClampNeg).toUInt32 % 65536).toInt32, .ref (gz q22), .ref (gz q22)]) (σ := σ25) (stp_callV1 (n := 1) rfl rfl rfl ⟨Nat.le_of_ble_eq_true rfl, Nat.le_of_ble_eq_true rfl⟩ rfl h26 rfl) ((fX15_sum_ok (rP 12) 48 (rP_ok 12) _ _ _ h28).deep (by omega)) ?_
      obtain ⟨q32, h33, hf⟩ := bnd hf
      refine go_c (mid := 9472) (args := [.ref (gz q22), .int ((gi σ a15 (gi σ x0 3).toNatClampNeg).toUInt32 % 65536).toInt32, .ref x1, .ref v29]) (pc := 108) (L := [some (.ref x0), some (.ref x1), some (.int ((gi σ a15 (gi σ x0 3).toNatClampNeg).toUInt32 % 65536).toInt32)]) (st := [.ref (gz q22)]) (σ := τ30) rfl ((fX24_init_ok _ _ _ _ _ q32 h33).deep (by omega)) ?_
      cases hf
      exact go_r rfl
    · try dsimp only at hf
      cases hf
      obtain ⟨ec, ea⟩ := e31
      exact go_ct (mid := 6922) (args := [.ref x0]) (pc := 105) (L := [some (.ref x0), some (.ref x1), some (.int ((gi σ a15 (gi σ x0 3).toNatClampNeg).toUInt32 % 65536).toInt32)]) (st := [.ref x1, .int ((gi σ a15 (gi σ x0 3).toNatClampNeg).toUInt32 % 65536).toInt32, .ref (gz q22), .ref (gz q22)]) (σ := σ25) (stp_callV1 (n := 1) rfl rfl rfl ⟨Nat.le_of_ble_eq_true rfl, Nat.le_of_ble_eq_true rfl⟩ rfl h26 rfl) ((fX15_sum_ok (rP 12) 48 (rP_ok 12) _ _ _ h28).deep (by omega)) rfl
def fX15_positive (RQ : Nat → Sg → Option ((Nat ⊕ (Nat × Nat)) × Sg)) (x0 : Nat) (σ : Sg) : Option ((Nat ⊕ (Nat × Nat)) × Sg) :=
  if (kk σ x0) = 23 then (fX15_is x0 1000029 σ).bind fun q2 => if q2 = 0 then if (kk σ x0) = 23 then ((fX15_sum (rP 12) x0 σ).bind fun q6 => match q6 with
  | (.inl v8, τ9) => if (kk τ9 x0) = 23 then (fX15_is x0 1000031 τ9).bind fun q12 => if q12 ≠ 0 then fX15_positive_J80 RQ x0 v8  τ9 else if (kk τ9 x0) = 23 then (fX15_is x0 1000032 τ9).bind fun q36 => if q36 ≠ 0 then fX15_positive_J80 RQ x0 v8  τ9 else if (kk τ9 x0) = 23 then (fX15_is x0 1000033 τ9).bind fun q40 => if q40 ≠ 0 then fX15_positive_J80 RQ x0 v8  τ9 else (am_new τ9 (24, 0) 7).bind fun σ44 => if [23].elem (kk σ44 x0) = true then (fX16_init (gz τ9) (gi σ44 x0 3) σ44).bind fun q46 => if (kk q46 (gz τ9)) = 24 then some (.inr (1, (gz τ9)), q46) else none else none else none else none else none
  | (.inr e10, τ9) => some (.inr e10, τ9)) else none else if (kk σ x0) = 23 then ((fX15_opens x0 σ).bind fun q50 => match q50 with
  | (.inl v52, τ53) => if (kk τ53 x0) = 23 then ((fX15_test RQ x0 τ53).bind fun q56 => match q56 with
  | (.inl v58, τ59) => if (kk τ59 x0) = 23 then ((fX15_need x0 1000030 τ59).bind fun q62 => match q62 with
  | (.inl v64, τ65) => if [23].elem (kk τ65 x0) = true then if [23].elem (kk τ65 x0) = true then some (.inl v58, (wi τ65 x0 6 ((gi τ65 x0 6) - 1))) else none else none
  | (.inr e66, τ65) => some (.inr e66, τ65)) else none
  | (.inr e60, τ59) => some (.inr e60, τ59)) else none
  | (.inr e54, τ53) => some (.inr e54, τ53)) else none else none
set_option maxHeartbeats 1500000 in
theorem fX15_positive_ok (RQ : Nat → Sg → Option ((Nat ⊕ (Nat × Nat)) × Sg)) (d : Nat) (hRQ : ∀ (x0 : Nat) (σ : Sg) (r : (Nat ⊕ (Nat × Nat)) × Sg), RQ x0 σ = some r → Cl true d 6932 [.ref x0] σ (am_outR r)) (x0 : Nat) (σ : Sg) (r : ((Nat ⊕ (Nat × Nat)) × Sg)) (hf : fX15_positive RQ x0 σ = some r) : Cl true (d + 52) 6932 [.ref x0] σ (am_outR r) := by
  refine ⟨iX15_positive, rfl, Nat.le_of_ble_eq_true rfl, Nat.le_of_ble_eq_true rfl, ?_⟩
  show Go true (d + 52) iX15_positive (0, [some (.ref x0), none, none], [], σ) (am_outR r)
  unfold fX15_positive at hf
  refine go_n 2 (f := (3, [some (.ref x0), none, none], [.ref 1000029, .ref x0], σ)) rfl ?_
  obtain ⟨h1, hf⟩ := grd hf
  obtain ⟨q2, h3, hf⟩ := bnd hf
  refine go_c (mid := 6918) (args := [.ref x0, .ref 1000029]) (pc := 6) (L := [some (.ref x0), none, none]) (st := []) (σ := σ) (stp_callV1 (n := 2) rfl rfl rfl ⟨Nat.le_of_ble_eq_true rfl, Nat.le_of_ble_eq_true rfl⟩ rfl h1 rfl) ((fX15_is_ok _ _ _ q2 h3).deep (by omega)) ?_
  by_cases h4 : q2 = 0
  · rw [if_pos h4] at hf
    refine go_it (t := 36) (f := 9) (L1 := [some (.ref x0), none, none]) (st1 := []) (σ1 := σ) rfl h4 ?_
    refine go_n 1 (f := (37, [some (.ref x0), none, none], [.ref x0], σ)) rfl ?_
    obtain ⟨h5, hf⟩ := grd hf
    obtain ⟨⟨v8 | e10, τ9⟩, h7, hf⟩ := bnd hf
    · try dsimp only at hf
      refine go_c (mid := 6922) (args := [.ref x0]) (pc := 40) (L := [some (.ref x0), none, none]) (st := []) (σ := σ) (stp_callV1 (n := 1) rfl rfl rfl ⟨Nat.le_of_ble_eq_true rfl, Nat.le_of_ble_eq_true rfl⟩ rfl h5 rfl) ((fX15_sum_ok (rP 12) 48 (rP_ok 12) _ _ _ h7).deep (by omega)) ?_
      refine go_n 3 (f := (44, [some (.ref x0), some (.ref v8), none], [.ref 1000031, .ref x0], τ9)) rfl ?_
      obtain ⟨h11, hf⟩ := grd hf
      obtain ⟨q12, h13, hf⟩ := bnd hf
      refine go_c (mid := 6918) (args := [.ref x0, .ref 1000031]) (pc := 47) (L := [some (.ref x0), some (.ref v8), none]) (st := []) (σ := τ9) (stp_callV1 (n := 2) rfl rfl rfl ⟨Nat.le_of_ble_eq_true rfl, Nat.le_of_ble_eq_true rfl⟩ rfl h11 rfl) ((fX15_is_ok _ _ _ q12 h13).deep (by omega)) ?_
      by_cases h14 : q12 ≠ 0
      · rw [if_pos h14] at hf
        refine go_it (t := 80) (f := 50) (L1 := [some (.ref x0), some (.ref v8), none]) (st1 := []) (σ1 := τ9) rfl h14 ?_
        exact fX15_positive_J80_ok _ _ hRQ _ _  _  _ hf
      · rw [if_neg h14] at hf
        refine go_if (t := 80) (f := 50) (L1 := [some (.ref x0), some (.ref v8), none]) (st1 := []) (σ1 := τ9) rfl h14 ?_
        refine go_n 2 (f := (53, [some (.ref x0), some (.ref v8), none], [.ref 1000032, .ref x0], τ9)) rfl ?_
        obtain ⟨h35, hf⟩ := grd hf
        obtain ⟨q36, h37, hf⟩ := bnd hf
        refine go_c (mid := 6918) (args := [.ref x0, .ref 1000032]) (pc := 56) (L := [some (.ref x0), some (.ref v8), none]) (st := []) (σ := τ9) (stp_callV1 (n := 2) rfl rfl rfl ⟨Nat.le_of_ble_eq_true rfl, Nat.le_of_ble_eq_true rfl⟩ rfl h35 rfl) ((fX15_is_ok _ _ _ q36 h37).deep (by omega)) ?_
        by_cases h38 : q36 ≠ 0
        · rw [if_pos h38] at hf
          refine go_it (t := 80) (f := 59) (L1 := [some (.ref x0), some (.ref v8), none]) (st1 := []) (σ1 := τ9) rfl h38 ?_
          exact fX15_positive_J80_ok _ _ hRQ _ _  _  _ hf
        · rw [if_neg h38] at hf
          refine go_if (t := 80) (f := 59) (L1 := [some (.ref x0), some (.ref v8), none]) (st1 := []) (σ1 := τ9) rfl h38 ?_
          refine go_n 2 (f := (62, [some (.ref x0), some (.ref v8), none], [.ref 1000033, .ref x0], τ9)) rfl ?_
          obtain ⟨h39, hf⟩ := grd hf
          obtain ⟨q40, h41, hf⟩ := bnd hf
          refine go_c (mid := 6918) (args := [.ref x0, .ref 1000033]) (pc := 65) (L := [some (.ref x0), some (.ref v8), none]) (st := []) (σ := τ9) (stp_callV1 (n := 2) rfl rfl rfl ⟨Nat.le_of_ble_eq_true rfl, Nat.le_of_ble_eq_true rfl⟩ rfl h39 rfl) ((fX15_is_ok _ _ _ q40 h41).deep (by omega)) ?_
          by_cases h42 : q40 ≠ 0
          · rw [if_pos h42] at hf
            refine go_it (t := 80) (f := 68) (L1 := [some (.ref x0), some (.ref v8), none]) (st1 := []) (σ1 := τ9) rfl h42 ?_
            exact fX15_positive_J80_ok _ _ hRQ _ _  _  _ hf
          · rw [if_neg h42] at hf
            refine go_if (t := 80) (f := 68) (L1 := [some (.ref x0), some (.ref v8), none]) (st1 := []) (σ1 := τ9) rfl h42 ?_
            obtain ⟨σ44, h43, hf⟩ := bnd hf
            refine go_new rfl rfl rfl h43 ?_
            refine go_n 2 (f := (73, [some (.ref x0), some (.ref v8), none], [.ref x0, .ref (gz τ9), .ref (gz τ9)], σ44)) rfl ?_
            obtain ⟨h45, hf⟩ := grd hf
            refine go_get rfl rfl rfl h45 ?_
            obtain ⟨q46, h47, hf⟩ := bnd hf
            refine go_c (mid := 7168) (args := [.ref (gz τ9), .int (gi σ44 x0 3)]) (pc := 79) (L := [some (.ref x0), some (.ref v8), none]) (st := [.ref (gz τ9)]) (σ := σ44) rfl ((fX16_init_ok _ _ _ q46 h47).deep (by omega)) ?_
            obtain ⟨h48, hf⟩ := grd hf
            cases hf
            exact go_t (am_thr24 rfl rfl h48) rfl
    · try dsimp only at hf
      cases hf
      obtain ⟨ec, ea⟩ := e10
      exact go_ct (mid := 6922) (args := [.ref x0]) (pc := 40) (L := [some (.ref x0), none, none]) (st := []) (σ := σ) (stp_callV1 (n := 1) rfl rfl rfl ⟨Nat.le_of_ble_eq_true rfl, Nat.le_of_ble_eq_true rfl⟩ rfl h5 rfl) ((fX15_sum_ok (rP 12) 48 (rP_ok 12) _ _ _ h7).deep (by omega)) rfl
  · rw [if_neg h4] at hf
    refine go_if (t := 36) (f := 9) (L1 := [some (.ref x0), none, none]) (st1 := []) (σ1 := σ) rfl h4 ?_
    refine go_n 1 (f := (10, [some (.ref x0), none, none], [.ref x0], σ)) rfl ?_
    obtain ⟨h49, hf⟩ := grd hf
    obtain ⟨⟨v52 | e54, τ53⟩, h51, hf⟩ := bnd hf
    · try dsimp only at hf
      refine go_c (mid := 6925) (args := [.ref x0]) (pc := 13) (L := [some (.ref x0), none, none]) (st := []) (σ := σ) (stp_callV1 (n := 1) rfl rfl rfl ⟨Nat.le_of_ble_eq_true rfl, Nat.le_of_ble_eq_true rfl⟩ rfl h49 rfl) ((fX15_opens_ok _ _ _ h51).deep (by omega)) ?_
      refine go_n 1 (f := (14, [some (.ref x0), none, none], [.ref x0], τ53)) rfl ?_
      obtain ⟨h55, hf⟩ := grd hf
      obtain ⟨⟨v58 | e60, τ59⟩, h57, hf⟩ := bnd hf
      · try dsimp only at hf
        refine go_c (mid := 6929) (args := [.ref x0]) (pc := 17) (L := [some (.ref x0), none, none]) (st := []) (σ := τ53) (stp_callV1 (n := 1) rfl rfl rfl ⟨Nat.le_of_ble_eq_true rfl, Nat.le_of_ble_eq_true rfl⟩ rfl h55 rfl) ((fX15_test_ok RQ d hRQ _ _ _ h57).deep (by omega)) ?_
        refine go_n 3 (f := (21, [some (.ref x0), some (.ref v58), none], [.ref 1000030, .ref x0], τ59)) rfl ?_
        obtain ⟨h61, hf⟩ := grd hf
        obtain ⟨⟨v64 | e66, τ65⟩, h63, hf⟩ := bnd hf
        · try dsimp only at hf
          refine go_c (mid := 6920) (args := [.ref x0, .ref 1000030]) (pc := 24) (L := [some (.ref x0), some (.ref v58), none]) (st := []) (σ := τ59) (stp_callV1 (n := 2) rfl rfl rfl ⟨Nat.le_of_ble_eq_true rfl, Nat.le_of_ble_eq_true rfl⟩ rfl h61 rfl) ((fX15_need_ok _ _ _ _ h63).deep (by omega)) ?_
          refine go_n 2 (f := (26, [some (.ref x0), some (.ref v58), none], [.ref x0, .ref x0], τ65)) rfl ?_
          obtain ⟨h67, hf⟩ := grd hf
          refine go_get rfl rfl rfl h67 ?_
          refine go_n 2 (f := (31, [some (.ref x0), some (.ref v58), none], [.int ((gi τ65 x0 6) - 1), .ref x0], τ65)) rfl ?_
          obtain ⟨h68, hf⟩ := grd hf
          refine go_puti rfl rfl rfl h68 rfl rfl rfl ?_
          refine go_n 1 (f := (35, [some (.ref x0), some (.ref v58), none], [.ref v58], (wi τ65 x0 6 ((gi τ65 x0 6) - 1)))) rfl ?_
          cases hf
          exact go_r rfl
        · try dsimp only at hf
          cases hf
          obtain ⟨ec, ea⟩ := e66
          exact go_ct (mid := 6920) (args := [.ref x0, .ref 1000030]) (pc := 24) (L := [some (.ref x0), some (.ref v58), none]) (st := []) (σ := τ59) (stp_callV1 (n := 2) rfl rfl rfl ⟨Nat.le_of_ble_eq_true rfl, Nat.le_of_ble_eq_true rfl⟩ rfl h61 rfl) ((fX15_need_ok _ _ _ _ h63).deep (by omega)) rfl
      · try dsimp only at hf
        cases hf
        obtain ⟨ec, ea⟩ := e60
        exact go_ct (mid := 6929) (args := [.ref x0]) (pc := 17) (L := [some (.ref x0), none, none]) (st := []) (σ := τ53) (stp_callV1 (n := 1) rfl rfl rfl ⟨Nat.le_of_ble_eq_true rfl, Nat.le_of_ble_eq_true rfl⟩ rfl h55 rfl) ((fX15_test_ok RQ d hRQ _ _ _ h57).deep (by omega)) rfl
    · try dsimp only at hf
      cases hf
      obtain ⟨ec, ea⟩ := e54
      exact go_ct (mid := 6925) (args := [.ref x0]) (pc := 13) (L := [some (.ref x0), none, none]) (st := []) (σ := σ) (stp_callV1 (n := 1) rfl rfl rfl ⟨Nat.le_of_ble_eq_true rfl, Nat.le_of_ble_eq_true rfl⟩ rfl h49 rfl) ((fX15_opens_ok _ _ _ h51).deep (by omega)) rfl
def rQ : Nat → Nat → Sg → Option ((Nat ⊕ (Nat × Nat)) × Sg)
  | 0 => fun _ _ => none
  | n + 1 => fun x0 σ => fX15_positive (rQ n) x0 σ
set_option maxHeartbeats 1500000 in
theorem rQ_ok : ∀ (n : Nat) (x0 : Nat) (σ : Sg) (r : (Nat ⊕ (Nat × Nat)) × Sg), rQ n x0 σ = some r → Cl true (52 * n) 6932 [.ref x0] σ (am_outR r) := by
  intro n
  induction n with
  | zero => intro x0 σ r h; cases h
  | succ n ih =>
    intro x0 σ r h
    exact (fX15_positive_ok (rQ n) (52 * n) ih x0 σ r h).deep (by omega)
/-! OldWeather$Reader.clause()V -/
def fX15_clause_J170 (x0 : Nat) (x1 : Nat)  (σ : Sg) : Option ((Unit ⊕ (Nat × Nat)) × Sg) :=
  if [23].elem (kk σ x0) = true then (match (rf σ x0 2) with
  | some a30 => if (kk σ a30) = 16 then (fJ2_add a30 x1 σ).bind fun q34 => some (.inl (), q34.2) else none
  | none => none) else none
set_option maxHeartbeats 1500000 in
theorem fX15_clause_J170_ok (x0 : Nat) (x1 : Nat)  (σ : Sg)  (r : ((Unit ⊕ (Nat × Nat)) × Sg)) (hf : fX15_clause_J170 x0 x1  σ = some r) : Go true 632 iX15_clause (170, [some (.ref x0), some (.ref x1)], [], σ) (am_outV r) := by
  unfold fX15_clause_J170 at hf
  refine go_n 1 (f := (171, [some (.ref x0), some (.ref x1)], [.ref x0], σ)) rfl ?_
  obtain ⟨h31, hf⟩ := grd hf
  refine go_get rfl rfl rfl h31 ?_
  show Go true 632 iX15_clause (174, [some (.ref x0), some (.ref x1)], va_rf (rf σ x0 2) :: [], σ) _
  generalize hR32 : (rf σ x0 2) = h36 at hf ⊢
  cases h36 with
  | none =>
    cases hf
  | some a30 =>
    refine go_n 1 (f := (175, [some (.ref x0), some (.ref x1)], [.ref x1, .ref a30], σ)) rfl ?_
    obtain ⟨h33, hf⟩ := grd hf
    obtain ⟨q34, h35, hf⟩ := bnd hf
    refine go_c (mid := 2822) (args := [.ref a30, .ref x1]) (pc := 178) (L := [some (.ref x0), some (.ref x1)]) (st := []) (σ := σ) (stp_callV1 (n := 2) rfl rfl rfl ⟨Nat.le_of_ble_eq_true rfl, Nat.le_of_ble_eq_true rfl⟩ rfl h33 rfl) ((fJ2_add_ok _ _ _ q34 h35).deep (Nat.le_of_ble_eq_true rfl)) ?_
    refine go_n 1 (f := (179, [some (.ref x0), some (.ref x1)], [], q34.2)) rfl ?_
    refine go_e (L1 := [none, none]) rfl rfl ?_
    cases hf
    exact go_r rfl
def fX15_clause (x0 : Nat) (σ : Sg) : Option ((Unit ⊕ (Nat × Nat)) × Sg) :=
  if [23].elem (kk σ x0) = true then (match (rf σ x0 2) with
  | some a1 => if (kk σ a1) = 16 then (fJ2_size a1 σ).bind fun q5 => if q5 ≠ 12 then if (kk σ x0) = 23 then (fX15_takes x0 1000000 σ).bind fun q9 => if q9.1 = 0 then if (kk q9.2 x0) = 23 then (fX15_takes x0 1000002 q9.2).bind fun q13 => if q13.1 = 0 then if (kk q13.2 x0) = 23 then (fX15_takes x0 1000003 q13.2).bind fun q17 => if q17.1 = 0 then if (kk q17.2 x0) = 23 then ((fX15_head x0 q17.2).bind fun q21 => match q21 with
  | (.inl v23, τ24) => if (kk τ24 x0) = 23 then (fX15_takes x0 1000027 τ24).bind fun q27 => if q27.1 = 0 then fX15_clause_J170 x0 v23  q27.2 else if (kk q27.2 x0) = 23 then ((fX15_test (rQ 12) x0 q27.2).bind fun q38 => match q38 with
  | (.inl v40, τ41) => if [26].elem (kk τ41 v23) = true then if (stT true v23 5).isNone = true then fX15_clause_J170 x0 v23  (wr τ41 v23 5 (some v40)) else none else none
  | (.inr e42, τ41) => some (.inr e42, τ41)) else none else none
  | (.inr e25, τ24) => some (.inr e25, τ24)) else none else if [23].elem (kk q17.2 x0) = true then (match (rf q17.2 x0 2) with
  | some a45 => (am_new q17.2 (26, 0) 6).bind fun σ49 => if (kk σ49 x0) = 23 then ((fX15_number x0 1 12 σ49).bind fun q51 => match q51 with
  | (.inl v53, τ54) => (fX17_init (gz q17.2) 8 0 v53 τ54).bind fun q56 => if (kk q56 a45) = 16 then (fJ2_add a45 (gz q17.2) q56).bind fun q59 => some (.inl (), q59.2) else none
  | (.inr e55, τ54) => some (.inr e55, τ54)) else none
  | none => none) else none else none else if [23].elem (kk q13.2 x0) = true then (match (rf q13.2 x0 2) with
  | some a62 => (am_new q13.2 (26, 0) 6).bind fun σ66 => if (kk σ66 x0) = 23 then ((fX15_number x0 1 20 σ66).bind fun q68 => match q68 with
  | (.inl v70, τ71) => (fX17_init (gz q13.2) 7 0 v70 τ71).bind fun q73 => if (kk q73 a62) = 16 then (fJ2_add a62 (gz q13.2) q73).bind fun q76 => some (.inl (), q76.2) else none
  | (.inr e72, τ71) => some (.inr e72, τ71)) else none
  | none => none) else none else none else if (kk q9.2 x0) = 23 then ((fX15_number x0 0 19 q9.2).bind fun q80 => match q80 with
  | (.inl v82, τ83) => if (kk τ83 x0) = 23 then ((fX15_need x0 1000001 τ83).bind fun q86 => match q86 with
  | (.inl v88, τ89) => if [23].elem (kk τ89 x0) = true then (match (rf τ89 x0 2) with
  | some a91 => (am_new τ89 (26, 0) 6).bind fun σ95 => if (kk σ95 x0) = 23 then ((fX15_number x0 0 11 σ95).bind fun q97 => match q97 with
  | (.inl v99, τ100) => (fX17_init (gz τ89) 0 v82 v99 τ100).bind fun q102 => if (kk q102 a91) = 16 then (fJ2_add a91 (gz τ89) q102).bind fun q105 => some (.inl (), q105.2) else none
  | (.inr e101, τ100) => some (.inr e101, τ100)) else none
  | none => none) else none
  | (.inr e90, τ89) => some (.inr e90, τ89)) else none
  | (.inr e84, τ83) => some (.inr e84, τ83)) else none else none else (am_new σ (24, 0) 7).bind fun σ109 => if [23].elem (kk σ109 x0) = true then (fX16_init (gz σ) (gi σ109 x0 3) σ109).bind fun q111 => if (kk q111 (gz σ)) = 24 then some (.inr (1, (gz σ)), q111) else none else none else none
  | none => none) else none
set_option maxHeartbeats 1500000 in
theorem fX15_clause_ok (x0 : Nat) (σ : Sg) (r : ((Unit ⊕ (Nat × Nat)) × Sg)) (hf : fX15_clause x0 σ = some r) : Cl true 632 6916 [.ref x0] σ (am_outV r) := by
  refine ⟨iX15_clause, rfl, Nat.le_of_ble_eq_true rfl, Nat.le_of_ble_eq_true rfl, ?_⟩
  show Go true 632 iX15_clause (0, [some (.ref x0), none], [], σ) (am_outV r)
  unfold fX15_clause at hf
  refine go_n 1 (f := (1, [some (.ref x0), none], [.ref x0], σ)) rfl ?_
  obtain ⟨h2, hf⟩ := grd hf
  refine go_get rfl rfl rfl h2 ?_
  show Go true 632 iX15_clause (4, [some (.ref x0), none], va_rf (rf σ x0 2) :: [], σ) _
  generalize hR3 : (rf σ x0 2) = h114 at hf ⊢
  cases h114 with
  | none =>
    cases hf
  | some a1 =>
    obtain ⟨h4, hf⟩ := grd hf
    obtain ⟨q5, h6, hf⟩ := bnd hf
    refine go_c (mid := 2821) (args := [.ref a1]) (pc := 7) (L := [some (.ref x0), none]) (st := []) (σ := σ) (stp_callV1 (n := 1) rfl rfl rfl ⟨Nat.le_of_ble_eq_true rfl, Nat.le_of_ble_eq_true rfl⟩ rfl h4 rfl) ((fJ2_size_ok _ _ q5 h6).deep (Nat.le_of_ble_eq_true rfl)) ?_
    refine go_n 1 (f := (9, [some (.ref x0), none], [.int 12, .int q5], σ)) rfl ?_
    by_cases h7 : q5 ≠ 12
    · rw [if_pos h7] at hf
      refine go_it (t := 24) (f := 12) (L1 := [some (.ref x0), none]) (st1 := []) (σ1 := σ) rfl h7 ?_
      refine go_n 2 (f := (27, [some (.ref x0), none], [.ref 1000000, .ref x0], σ)) rfl ?_
      obtain ⟨h8, hf⟩ := grd hf
      obtain ⟨q9, h10, hf⟩ := bnd hf
      refine go_c (mid := 6917) (args := [.ref x0, .ref 1000000]) (pc := 30) (L := [some (.ref x0), none]) (st := []) (σ := σ) (stp_callV1 (n := 2) rfl rfl rfl ⟨Nat.le_of_ble_eq_true rfl, Nat.le_of_ble_eq_true rfl⟩ rfl h8 rfl) ((fX15_takes_ok _ _ _ q9 h10).deep (Nat.le_of_ble_eq_true rfl)) ?_
      by_cases h11 : q9.1 = 0
      · rw [if_pos h11] at hf
        refine go_it (t := 74) (f := 33) (L1 := [some (.ref x0), none]) (st1 := []) (σ1 := q9.2) rfl h11 ?_
        refine go_n 2 (f := (77, [some (.ref x0), none], [.ref 1000002, .ref x0], q9.2)) rfl ?_
        obtain ⟨h12, hf⟩ := grd hf
        obtain ⟨q13, h14, hf⟩ := bnd hf
        refine go_c (mid := 6917) (args := [.ref x0, .ref 1000002]) (pc := 80) (L := [some (.ref x0), none]) (st := []) (σ := q9.2) (stp_callV1 (n := 2) rfl rfl rfl ⟨Nat.le_of_ble_eq_true rfl, Nat.le_of_ble_eq_true rfl⟩ rfl h12 rfl) ((fX15_takes_ok _ _ _ q13 h14).deep (Nat.le_of_ble_eq_true rfl)) ?_
        by_cases h15 : q13.1 = 0
        · rw [if_pos h15] at hf
          refine go_it (t := 111) (f := 83) (L1 := [some (.ref x0), none]) (st1 := []) (σ1 := q13.2) rfl h15 ?_
          refine go_n 2 (f := (114, [some (.ref x0), none], [.ref 1000003, .ref x0], q13.2)) rfl ?_
          obtain ⟨h16, hf⟩ := grd hf
          obtain ⟨q17, h18, hf⟩ := bnd hf
          refine go_c (mid := 6917) (args := [.ref x0, .ref 1000003]) (pc := 117) (L := [some (.ref x0), none]) (st := []) (σ := q13.2) (stp_callV1 (n := 2) rfl rfl rfl ⟨Nat.le_of_ble_eq_true rfl, Nat.le_of_ble_eq_true rfl⟩ rfl h16 rfl) ((fX15_takes_ok _ _ _ q17 h18).deep (Nat.le_of_ble_eq_true rfl)) ?_
          by_cases h19 : q17.1 = 0
          · rw [if_pos h19] at hf
            refine go_it (t := 148) (f := 120) (L1 := [some (.ref x0), none]) (st1 := []) (σ1 := q17.2) rfl h19 ?_
            refine go_n 1 (f := (149, [some (.ref x0), none], [.ref x0], q17.2)) rfl ?_
            obtain ⟨h20, hf⟩ := grd hf
            obtain ⟨⟨v23 | e25, τ24⟩, h22, hf⟩ := bnd hf
            · try dsimp only at hf
              refine go_c (mid := 6921) (args := [.ref x0]) (pc := 152) (L := [some (.ref x0), none]) (st := []) (σ := q17.2) (stp_callV1 (n := 1) rfl rfl rfl ⟨Nat.le_of_ble_eq_true rfl, Nat.le_of_ble_eq_true rfl⟩ rfl h20 rfl) ((fX15_head_ok _ _ _ h22).deep (Nat.le_of_ble_eq_true rfl)) ?_
              refine go_n 3 (f := (156, [some (.ref x0), some (.ref v23)], [.ref 1000027, .ref x0], τ24)) rfl ?_
              obtain ⟨h26, hf⟩ := grd hf
              obtain ⟨q27, h28, hf⟩ := bnd hf
              refine go_c (mid := 6917) (args := [.ref x0, .ref 1000027]) (pc := 159) (L := [some (.ref x0), some (.ref v23)]) (st := []) (σ := τ24) (stp_callV1 (n := 2) rfl rfl rfl ⟨Nat.le_of_ble_eq_true rfl, Nat.le_of_ble_eq_true rfl⟩ rfl h26 rfl) ((fX15_takes_ok _ _ _ q27 h28).deep (Nat.le_of_ble_eq_true rfl)) ?_
              by_cases h29 : q27.1 = 0
              · rw [if_pos h29] at hf
                refine go_it (t := 170) (f := 162) (L1 := [some (.ref x0), some (.ref v23)]) (st1 := []) (σ1 := q27.2) rfl h29 ?_
                exact fX15_clause_J170_ok _ _  _  _ hf
              · rw [if_neg h29] at hf
                refine go_if (t := 170) (f := 162) (L1 := [some (.ref x0), some (.ref v23)]) (st1 := []) (σ1 := q27.2) rfl h29 ?_
                refine go_n 2 (f := (164, [some (.ref x0), some (.ref v23)], [.ref x0, .ref v23], q27.2)) rfl ?_
                obtain ⟨h37, hf⟩ := grd hf
                obtain ⟨⟨v40 | e42, τ41⟩, h39, hf⟩ := bnd hf
                · try dsimp only at hf
                  refine go_c (mid := 6929) (args := [.ref x0]) (pc := 167) (L := [some (.ref x0), some (.ref v23)]) (st := [.ref v23]) (σ := q27.2) (stp_callV1 (n := 1) rfl rfl rfl ⟨Nat.le_of_ble_eq_true rfl, Nat.le_of_ble_eq_true rfl⟩ rfl h37 rfl) ((fX15_test_ok (rQ 12) 624 (rQ_ok 12) _ _ _ h39).deep (Nat.le_of_ble_eq_true rfl)) ?_
                  obtain ⟨h43, hf⟩ := grd hf
                  obtain ⟨h44, hf⟩ := grd hf
                  refine go_putr rfl rfl rfl h43 rfl h44 ?_
                  exact fX15_clause_J170_ok _ _  _  _ hf
                · try dsimp only at hf
                  cases hf
                  obtain ⟨ec, ea⟩ := e42
                  exact go_ct (mid := 6929) (args := [.ref x0]) (pc := 167) (L := [some (.ref x0), some (.ref v23)]) (st := [.ref v23]) (σ := q27.2) (stp_callV1 (n := 1) rfl rfl rfl ⟨Nat.le_of_ble_eq_true rfl, Nat.le_of_ble_eq_true rfl⟩ rfl h37 rfl) ((fX15_test_ok (rQ 12) 624 (rQ_ok 12) _ _ _ h39).deep (Nat.le_of_ble_eq_true rfl)) rfl
            · try dsimp only at hf
              cases hf
              obtain ⟨ec, ea⟩ := e25
              exact go_ct (mid := 6921) (args := [.ref x0]) (pc := 152) (L := [some (.ref x0), none]) (st := []) (σ := q17.2) (stp_callV1 (n := 1) rfl rfl rfl ⟨Nat.le_of_ble_eq_true rfl, Nat.le_of_ble_eq_true rfl⟩ rfl h20 rfl) ((fX15_head_ok _ _ _ h22).deep (Nat.le_of_ble_eq_true rfl)) rfl
          · rw [if_neg h19] at hf
            refine go_if (t := 148) (f := 120) (L1 := [some (.ref x0), none]) (st1 := []) (σ1 := q17.2) rfl h19 ?_
            refine go_n 1 (f := (121, [some (.ref x0), none], [.ref x0], q17.2)) rfl ?_
            obtain ⟨h46, hf⟩ := grd hf
            refine go_get rfl rfl rfl h46 ?_
            show Go true 632 iX15_clause (124, [some (.ref x0), none], va_rf (rf q17.2 x0 2) :: [], q17.2) _
            generalize hR47 : (rf q17.2 x0 2) = h61 at hf ⊢
            cases h61 with
            | none =>
              cases hf
            | some a45 =>
              obtain ⟨σ49, h48, hf⟩ := bnd hf
              refine go_new rfl rfl rfl h48 ?_
              refine go_n 6 (f := (135, [some (.ref x0), none], [.int 12, .int 1, .ref x0, .int 0, .int 8, .ref (gz q17.2), .ref (gz q17.2), .ref a45], σ49)) rfl ?_
              obtain ⟨h50, hf⟩ := grd hf
              obtain ⟨⟨v53 | e55, τ54⟩, h52, hf⟩ := bnd hf
              · try dsimp only at hf
                refine go_c (mid := 6919) (args := [.ref x0, .int 1, .int 12]) (pc := 138) (L := [some (.ref x0), none]) (st := [.int 0, .int 8, .ref (gz q17.2), .ref (gz q17.2), .ref a45]) (σ := σ49) (stp_callV1 (n := 3) rfl rfl rfl ⟨Nat.le_of_ble_eq_true rfl, Nat.le_of_ble_eq_true rfl⟩ rfl h50 rfl) ((fX15_number_ok _ _ _ _ _ h52).deep (Nat.le_of_ble_eq_true rfl)) ?_
                obtain ⟨q56, h57, hf⟩ := bnd hf
                refine go_c (mid := 7424) (args := [.ref (gz q17.2), .int 8, .int 0, .int v53]) (pc := 141) (L := [some (.ref x0), none]) (st := [.ref (gz q17.2), .ref a45]) (σ := τ54) rfl ((fX17_init_ok _ _ _ _ _ q56 h57).deep (Nat.le_of_ble_eq_true rfl)) ?_
                obtain ⟨h58, hf⟩ := grd hf
                obtain ⟨q59, h60, hf⟩ := bnd hf
                refine go_c (mid := 2822) (args := [.ref a45, .ref (gz q17.2)]) (pc := 144) (L := [some (.ref x0), none]) (st := []) (σ := q56) (stp_callV1 (n := 2) rfl rfl rfl ⟨Nat.le_of_ble_eq_true rfl, Nat.le_of_ble_eq_true rfl⟩ rfl h58 rfl) ((fJ2_add_ok _ _ _ q59 h60).deep (Nat.le_of_ble_eq_true rfl)) ?_
                refine go_n 2 (f := (179, [some (.ref x0), none], [], q59.2)) rfl ?_
                refine go_e (L1 := [none, none]) rfl rfl ?_
                cases hf
                exact go_r rfl
              · try dsimp only at hf
                cases hf
                obtain ⟨ec, ea⟩ := e55
                exact go_ct (mid := 6919) (args := [.ref x0, .int 1, .int 12]) (pc := 138) (L := [some (.ref x0), none]) (st := [.int 0, .int 8, .ref (gz q17.2), .ref (gz q17.2), .ref a45]) (σ := σ49) (stp_callV1 (n := 3) rfl rfl rfl ⟨Nat.le_of_ble_eq_true rfl, Nat.le_of_ble_eq_true rfl⟩ rfl h50 rfl) ((fX15_number_ok _ _ _ _ _ h52).deep (Nat.le_of_ble_eq_true rfl)) rfl
        · rw [if_neg h15] at hf
          refine go_if (t := 111) (f := 83) (L1 := [some (.ref x0), none]) (st1 := []) (σ1 := q13.2) rfl h15 ?_
          refine go_n 1 (f := (84, [some (.ref x0), none], [.ref x0], q13.2)) rfl ?_
          obtain ⟨h63, hf⟩ := grd hf
          refine go_get rfl rfl rfl h63 ?_
          show Go true 632 iX15_clause (87, [some (.ref x0), none], va_rf (rf q13.2 x0 2) :: [], q13.2) _
          generalize hR64 : (rf q13.2 x0 2) = h78 at hf ⊢
          cases h78 with
          | none =>
            cases hf
          | some a62 =>
            obtain ⟨σ66, h65, hf⟩ := bnd hf
            refine go_new rfl rfl rfl h65 ?_
            refine go_n 6 (f := (98, [some (.ref x0), none], [.int 20, .int 1, .ref x0, .int 0, .int 7, .ref (gz q13.2), .ref (gz q13.2), .ref a62], σ66)) rfl ?_
            obtain ⟨h67, hf⟩ := grd hf
            obtain ⟨⟨v70 | e72, τ71⟩, h69, hf⟩ := bnd hf
            · try dsimp only at hf
              refine go_c (mid := 6919) (args := [.ref x0, .int 1, .int 20]) (pc := 101) (L := [some (.ref x0), none]) (st := [.int 0, .int 7, .ref (gz q13.2), .ref (gz q13.2), .ref a62]) (σ := σ66) (stp_callV1 (n := 3) rfl rfl rfl ⟨Nat.le_of_ble_eq_true rfl, Nat.le_of_ble_eq_true rfl⟩ rfl h67 rfl) ((fX15_number_ok _ _ _ _ _ h69).deep (Nat.le_of_ble_eq_true rfl)) ?_
              obtain ⟨q73, h74, hf⟩ := bnd hf
              refine go_c (mid := 7424) (args := [.ref (gz q13.2), .int 7, .int 0, .int v70]) (pc := 104) (L := [some (.ref x0), none]) (st := [.ref (gz q13.2), .ref a62]) (σ := τ71) rfl ((fX17_init_ok _ _ _ _ _ q73 h74).deep (Nat.le_of_ble_eq_true rfl)) ?_
              obtain ⟨h75, hf⟩ := grd hf
              obtain ⟨q76, h77, hf⟩ := bnd hf
              refine go_c (mid := 2822) (args := [.ref a62, .ref (gz q13.2)]) (pc := 107) (L := [some (.ref x0), none]) (st := []) (σ := q73) (stp_callV1 (n := 2) rfl rfl rfl ⟨Nat.le_of_ble_eq_true rfl, Nat.le_of_ble_eq_true rfl⟩ rfl h75 rfl) ((fJ2_add_ok _ _ _ q76 h77).deep (Nat.le_of_ble_eq_true rfl)) ?_
              refine go_n 2 (f := (179, [some (.ref x0), none], [], q76.2)) rfl ?_
              refine go_e (L1 := [none, none]) rfl rfl ?_
              cases hf
              exact go_r rfl
            · try dsimp only at hf
              cases hf
              obtain ⟨ec, ea⟩ := e72
              exact go_ct (mid := 6919) (args := [.ref x0, .int 1, .int 20]) (pc := 101) (L := [some (.ref x0), none]) (st := [.int 0, .int 7, .ref (gz q13.2), .ref (gz q13.2), .ref a62]) (σ := σ66) (stp_callV1 (n := 3) rfl rfl rfl ⟨Nat.le_of_ble_eq_true rfl, Nat.le_of_ble_eq_true rfl⟩ rfl h67 rfl) ((fX15_number_ok _ _ _ _ _ h69).deep (Nat.le_of_ble_eq_true rfl)) rfl
      · rw [if_neg h11] at hf
        refine go_if (t := 74) (f := 33) (L1 := [some (.ref x0), none]) (st1 := []) (σ1 := q9.2) rfl h11 ?_
        refine go_n 3 (f := (37, [some (.ref x0), none], [.int 19, .int 0, .ref x0], q9.2)) rfl ?_
        obtain ⟨h79, hf⟩ := grd hf
        obtain ⟨⟨v82 | e84, τ83⟩, h81, hf⟩ := bnd hf
        · try dsimp only at hf
          refine go_c (mid := 6919) (args := [.ref x0, .int 0, .int 19]) (pc := 40) (L := [some (.ref x0), none]) (st := []) (σ := q9.2) (stp_callV1 (n := 3) rfl rfl rfl ⟨Nat.le_of_ble_eq_true rfl, Nat.le_of_ble_eq_true rfl⟩ rfl h79 rfl) ((fX15_number_ok _ _ _ _ _ h81).deep (Nat.le_of_ble_eq_true rfl)) ?_
          refine go_n 3 (f := (44, [some (.ref x0), some (.int v82)], [.ref 1000001, .ref x0], τ83)) rfl ?_
          obtain ⟨h85, hf⟩ := grd hf
          obtain ⟨⟨v88 | e90, τ89⟩, h87, hf⟩ := bnd hf
          · try dsimp only at hf
            refine go_c (mid := 6920) (args := [.ref x0, .ref 1000001]) (pc := 47) (L := [some (.ref x0), some (.int v82)]) (st := []) (σ := τ83) (stp_callV1 (n := 2) rfl rfl rfl ⟨Nat.le_of_ble_eq_true rfl, Nat.le_of_ble_eq_true rfl⟩ rfl h85 rfl) ((fX15_need_ok _ _ _ _ h87).deep (Nat.le_of_ble_eq_true rfl)) ?_
            refine go_n 1 (f := (48, [some (.ref x0), some (.int v82)], [.ref x0], τ89)) rfl ?_
            obtain ⟨h92, hf⟩ := grd hf
            refine go_get rfl rfl rfl h92 ?_
            show Go true 632 iX15_clause (51, [some (.ref x0), some (.int v82)], va_rf (rf τ89 x0 2) :: [], τ89) _
            generalize hR93 : (rf τ89 x0 2) = h107 at hf ⊢
            cases h107 with
            | none =>
              cases hf
            | some a91 =>
              obtain ⟨σ95, h94, hf⟩ := bnd hf
              refine go_new rfl rfl rfl h94 ?_
              refine go_n 6 (f := (61, [some (.ref x0), some (.int v82)], [.int 11, .int 0, .ref x0, .int v82, .int 0, .ref (gz τ89), .ref (gz τ89), .ref a91], σ95)) rfl ?_
              obtain ⟨h96, hf⟩ := grd hf
              obtain ⟨⟨v99 | e101, τ100⟩, h98, hf⟩ := bnd hf
              · try dsimp only at hf
                refine go_c (mid := 6919) (args := [.ref x0, .int 0, .int 11]) (pc := 64) (L := [some (.ref x0), some (.int v82)]) (st := [.int v82, .int 0, .ref (gz τ89), .ref (gz τ89), .ref a91]) (σ := σ95) (stp_callV1 (n := 3) rfl rfl rfl ⟨Nat.le_of_ble_eq_true rfl, Nat.le_of_ble_eq_true rfl⟩ rfl h96 rfl) ((fX15_number_ok _ _ _ _ _ h98).deep (Nat.le_of_ble_eq_true rfl)) ?_
                obtain ⟨q102, h103, hf⟩ := bnd hf
                refine go_c (mid := 7424) (args := [.ref (gz τ89), .int 0, .int v82, .int v99]) (pc := 67) (L := [some (.ref x0), some (.int v82)]) (st := [.ref (gz τ89), .ref a91]) (σ := τ100) rfl ((fX17_init_ok _ _ _ _ _ q102 h103).deep (Nat.le_of_ble_eq_true rfl)) ?_
                obtain ⟨h104, hf⟩ := grd hf
                obtain ⟨q105, h106, hf⟩ := bnd hf
                refine go_c (mid := 2822) (args := [.ref a91, .ref (gz τ89)]) (pc := 70) (L := [some (.ref x0), some (.int v82)]) (st := []) (σ := q102) (stp_callV1 (n := 2) rfl rfl rfl ⟨Nat.le_of_ble_eq_true rfl, Nat.le_of_ble_eq_true rfl⟩ rfl h104 rfl) ((fJ2_add_ok _ _ _ q105 h106).deep (Nat.le_of_ble_eq_true rfl)) ?_
                refine go_n 2 (f := (179, [some (.ref x0), some (.int v82)], [], q105.2)) rfl ?_
                refine go_e (L1 := [none, none]) rfl rfl ?_
                cases hf
                exact go_r rfl
              · try dsimp only at hf
                cases hf
                obtain ⟨ec, ea⟩ := e101
                exact go_ct (mid := 6919) (args := [.ref x0, .int 0, .int 11]) (pc := 64) (L := [some (.ref x0), some (.int v82)]) (st := [.int v82, .int 0, .ref (gz τ89), .ref (gz τ89), .ref a91]) (σ := σ95) (stp_callV1 (n := 3) rfl rfl rfl ⟨Nat.le_of_ble_eq_true rfl, Nat.le_of_ble_eq_true rfl⟩ rfl h96 rfl) ((fX15_number_ok _ _ _ _ _ h98).deep (Nat.le_of_ble_eq_true rfl)) rfl
          · try dsimp only at hf
            cases hf
            obtain ⟨ec, ea⟩ := e90
            exact go_ct (mid := 6920) (args := [.ref x0, .ref 1000001]) (pc := 47) (L := [some (.ref x0), some (.int v82)]) (st := []) (σ := τ83) (stp_callV1 (n := 2) rfl rfl rfl ⟨Nat.le_of_ble_eq_true rfl, Nat.le_of_ble_eq_true rfl⟩ rfl h85 rfl) ((fX15_need_ok _ _ _ _ h87).deep (Nat.le_of_ble_eq_true rfl)) rfl
        · try dsimp only at hf
          cases hf
          obtain ⟨ec, ea⟩ := e84
          exact go_ct (mid := 6919) (args := [.ref x0, .int 0, .int 19]) (pc := 40) (L := [some (.ref x0), none]) (st := []) (σ := q9.2) (stp_callV1 (n := 3) rfl rfl rfl ⟨Nat.le_of_ble_eq_true rfl, Nat.le_of_ble_eq_true rfl⟩ rfl h79 rfl) ((fX15_number_ok _ _ _ _ _ h81).deep (Nat.le_of_ble_eq_true rfl)) rfl
    · rw [if_neg h7] at hf
      refine go_if (t := 24) (f := 12) (L1 := [some (.ref x0), none]) (st1 := []) (σ1 := σ) rfl h7 ?_
      obtain ⟨σ109, h108, hf⟩ := bnd hf
      refine go_new rfl rfl rfl h108 ?_
      refine go_n 2 (f := (17, [some (.ref x0), none], [.ref x0, .ref (gz σ), .ref (gz σ)], σ109)) rfl ?_
      obtain ⟨h110, hf⟩ := grd hf
      refine go_get rfl rfl rfl h110 ?_
      obtain ⟨q111, h112, hf⟩ := bnd hf
      refine go_c (mid := 7168) (args := [.ref (gz σ), .int (gi σ109 x0 3)]) (pc := 23) (L := [some (.ref x0), none]) (st := [.ref (gz σ)]) (σ := σ109) rfl ((fX16_init_ok _ _ _ q111 h112).deep (Nat.le_of_ble_eq_true rfl)) ?_
      obtain ⟨h113, hf⟩ := grd hf
      cases hf
      exact go_t (am_thr24 rfl rfl h113) rfl
/-! OldWeather$Reader.read()V -/
def fX15_read_L8 (x0 : Nat)  (rec8 : Sg → Option ((Unit ⊕ (Nat × Nat)) × Sg)) (σ : Sg) : Option ((Unit ⊕ (Nat × Nat)) × Sg) :=
  if (kk σ x0) = 23 then (fX15_takes x0 1000036 σ).bind fun q11 => if q11.1 = 0 then if [23].elem (kk q11.2 x0) = true then if [23].elem (kk q11.2 x0) = true then if (gi q11.2 x0 1) ≤ (gi q11.2 x0 3) then some (.inl (), q11.2) else (am_new q11.2 (24, 0) 7).bind fun σ18 => if [23].elem (kk σ18 x0) = true then (fX16_init (gz q11.2) (gi σ18 x0 3) σ18).bind fun q20 => if (kk q20 (gz q11.2)) = 24 then some (.inr (1, (gz q11.2)), q20) else none else none else none else none else if (kk q11.2 x0) = 23 then ((fX15_clause x0 q11.2).bind fun q24 => match q24 with
  | (.inl v26, τ27) => rec8 τ27
  | (.inr e28, τ27) => some (.inr e28, τ27)) else none else none
set_option maxHeartbeats 1500000 in
theorem fX15_read_L8_ok (x0 : Nat)   : ∀ (n : Nat) (σ : Sg) (r : ((Unit ⊕ (Nat × Nat)) × Sg)), lp (fX15_read_L8 x0 ) n σ = some r → Go true 633 iX15_read (8, [some (.ref x0)], [], σ) (am_outV r) := by
  intro n
  induction n with
  | zero => intro σ r hf; cases hf
  | succ n ih =>
    intro σ r hf
    have hf : fX15_read_L8 x0  (lp (fX15_read_L8 x0 ) n) σ = some r := hf
    have hrec8 := ih
    generalize lp (fX15_read_L8 x0 ) n = rec8 at hf hrec8
    unfold fX15_read_L8 at hf
    refine go_n 2 (f := (11, [some (.ref x0)], [.ref 1000036, .ref x0], σ)) rfl ?_
    obtain ⟨h10, hf⟩ := grd hf
    obtain ⟨q11, h12, hf⟩ := bnd hf
    refine go_c (mid := 6917) (args := [.ref x0, .ref 1000036]) (pc := 14) (L := [some (.ref x0)]) (st := []) (σ := σ) (stp_callV1 (n := 2) rfl rfl rfl ⟨Nat.le_of_ble_eq_true rfl, Nat.le_of_ble_eq_true rfl⟩ rfl h10 rfl) ((fX15_takes_ok _ _ _ q11 h12).deep (Nat.le_of_ble_eq_true rfl)) ?_
    by_cases h13 : q11.1 = 0
    · rw [if_pos h13] at hf
      refine go_it (t := 24) (f := 17) (L1 := [some (.ref x0)]) (st1 := []) (σ1 := q11.2) rfl h13 ?_
      refine go_n 1 (f := (25, [some (.ref x0)], [.ref x0], q11.2)) rfl ?_
      obtain ⟨h14, hf⟩ := grd hf
      refine go_get rfl rfl rfl h14 ?_
      refine go_n 1 (f := (29, [some (.ref x0)], [.ref x0, .int (gi q11.2 x0 3)], q11.2)) rfl ?_
      obtain ⟨h15, hf⟩ := grd hf
      refine go_get rfl rfl rfl h15 ?_
      by_cases h16 : (gi q11.2 x0 1) ≤ (gi q11.2 x0 3)
      · rw [if_pos h16] at hf
        refine go_it (t := 47) (f := 35) (L1 := [some (.ref x0)]) (st1 := []) (σ1 := q11.2) rfl h16 ?_
        cases hf
        exact go_r rfl
      · rw [if_neg h16] at hf
        refine go_if (t := 47) (f := 35) (L1 := [some (.ref x0)]) (st1 := []) (σ1 := q11.2) rfl h16 ?_
        obtain ⟨σ18, h17, hf⟩ := bnd hf
        refine go_new rfl rfl rfl h17 ?_
        refine go_n 2 (f := (40, [some (.ref x0)], [.ref x0, .ref (gz q11.2), .ref (gz q11.2)], σ18)) rfl ?_
        obtain ⟨h19, hf⟩ := grd hf
        refine go_get rfl rfl rfl h19 ?_
        obtain ⟨q20, h21, hf⟩ := bnd hf
        refine go_c (mid := 7168) (args := [.ref (gz q11.2), .int (gi σ18 x0 3)]) (pc := 46) (L := [some (.ref x0)]) (st := [.ref (gz q11.2)]) (σ := σ18) rfl ((fX16_init_ok _ _ _ q20 h21).deep (Nat.le_of_ble_eq_true rfl)) ?_
        obtain ⟨h22, hf⟩ := grd hf
        cases hf
        exact go_t (am_thr24 rfl rfl h22) rfl
    · rw [if_neg h13] at hf
      refine go_if (t := 24) (f := 17) (L1 := [some (.ref x0)]) (st1 := []) (σ1 := q11.2) rfl h13 ?_
      refine go_n 1 (f := (18, [some (.ref x0)], [.ref x0], q11.2)) rfl ?_
      obtain ⟨h23, hf⟩ := grd hf
      obtain ⟨⟨v26 | e28, τ27⟩, h25, hf⟩ := bnd hf
      · try dsimp only at hf
        refine go_c (mid := 6916) (args := [.ref x0]) (pc := 21) (L := [some (.ref x0)]) (st := []) (σ := q11.2) (stp_callV1 (n := 1) rfl rfl rfl ⟨Nat.le_of_ble_eq_true rfl, Nat.le_of_ble_eq_true rfl⟩ rfl h23 rfl) ((fX15_clause_ok _ _ _ h25).deep (Nat.le_of_ble_eq_true rfl)) ?_
        refine go_n 1 (f := (8, [some (.ref x0)], [], τ27)) rfl ?_
        exact hrec8 _ _ hf
      · try dsimp only at hf
        cases hf
        obtain ⟨ec, ea⟩ := e28
        exact go_ct (mid := 6916) (args := [.ref x0]) (pc := 21) (L := [some (.ref x0)]) (st := []) (σ := q11.2) (stp_callV1 (n := 1) rfl rfl rfl ⟨Nat.le_of_ble_eq_true rfl, Nat.le_of_ble_eq_true rfl⟩ rfl h23 rfl) ((fX15_clause_ok _ _ _ h25).deep (Nat.le_of_ble_eq_true rfl)) rfl
def fX15_read (x0 : Nat) (σ : Sg) : Option ((Unit ⊕ (Nat × Nat)) × Sg) :=
  if (kk σ x0) = 23 then (fX15_next x0 σ).bind fun q2 => if (kk q2 x0) = 23 then ((fX15_clause x0 q2).bind fun q5 => match q5 with
  | (.inl v7, τ8) => lp (fX15_read_L8 x0 ) N0 τ8
  | (.inr e9, τ8) => some (.inr e9, τ8)) else none else none
set_option maxHeartbeats 1500000 in
theorem fX15_read_ok (x0 : Nat) (σ : Sg) (r : ((Unit ⊕ (Nat × Nat)) × Sg)) (hf : fX15_read x0 σ = some r) : Cl true 633 6913 [.ref x0] σ (am_outV r) := by
  refine ⟨iX15_read, rfl, Nat.le_of_ble_eq_true rfl, Nat.le_of_ble_eq_true rfl, ?_⟩
  show Go true 633 iX15_read (0, [some (.ref x0)], [], σ) (am_outV r)
  unfold fX15_read at hf
  refine go_n 1 (f := (1, [some (.ref x0)], [.ref x0], σ)) rfl ?_
  obtain ⟨h1, hf⟩ := grd hf
  obtain ⟨q2, h3, hf⟩ := bnd hf
  refine go_c (mid := 6914) (args := [.ref x0]) (pc := 4) (L := [some (.ref x0)]) (st := []) (σ := σ) (stp_callV1 (n := 1) rfl rfl rfl ⟨Nat.le_of_ble_eq_true rfl, Nat.le_of_ble_eq_true rfl⟩ rfl h1 rfl) ((fX15_next_ok _ _ q2 h3).deep (Nat.le_of_ble_eq_true rfl)) ?_
  refine go_n 1 (f := (5, [some (.ref x0)], [.ref x0], q2)) rfl ?_
  obtain ⟨h4, hf⟩ := grd hf
  obtain ⟨⟨v7 | e9, τ8⟩, h6, hf⟩ := bnd hf
  · try dsimp only at hf
    refine go_c (mid := 6916) (args := [.ref x0]) (pc := 8) (L := [some (.ref x0)]) (st := []) (σ := q2) (stp_callV1 (n := 1) rfl rfl rfl ⟨Nat.le_of_ble_eq_true rfl, Nat.le_of_ble_eq_true rfl⟩ rfl h4 rfl) ((fX15_clause_ok _ _ _ h6).deep (Nat.le_of_ble_eq_true rfl)) ?_
    exact fX15_read_L8_ok _   N0 _ _ hf
  · try dsimp only at hf
    cases hf
    obtain ⟨ec, ea⟩ := e9
    exact go_ct (mid := 6916) (args := [.ref x0]) (pc := 8) (L := [some (.ref x0)]) (st := []) (σ := q2) (stp_callV1 (n := 1) rfl rfl rfl ⟨Nat.le_of_ble_eq_true rfl, Nat.le_of_ble_eq_true rfl⟩ rfl h4 rfl) ((fX15_clause_ok _ _ _ h6).deep (Nat.le_of_ble_eq_true rfl)) rfl
/-! OldWeather.rules(I)I -/
def fX0_rules_J65 (s0 : Nat)  (σ : Sg) : Option (Int32 × Sg) :=
  if [24].elem (kk σ s0) = true then (fX0_refuse (-6) (wi σ 0 9 (gi σ s0 6))).bind fun q34 => some (q34.1, q34.2) else none
set_option maxHeartbeats 1500000 in
theorem fX0_rules_J65_ok (s0 : Nat)  (σ : Sg)  (r : (Int32 × Sg)) (hf : fX0_rules_J65 s0  σ = some r) : Go true 634 iX0_rules (65, [some (.ref 0), none, none, none, none], [.ref s0], σ) (.inl (some (.int (r).1)), (r).2) := by
  unfold fX0_rules_J65 at hf
  refine go_n 3 (f := (70, [some (.ref 0), none, none, none, some (.ref s0)], [.ref s0, .ref 0], σ)) rfl ?_
  obtain ⟨h33, hf⟩ := grd hf
  refine go_get rfl rfl rfl h33 ?_
  refine go_n 3 (f := (79, [some (.ref 0), none, none, none, some (.ref s0)], [.int (-6), .ref 0], (wi σ 0 9 (gi σ s0 6)))) rfl ?_
  obtain ⟨q34, h35, hf⟩ := bnd hf
  refine go_c (mid := 5133) (args := [.ref 0, .int (-6)]) (pc := 82) (L := [some (.ref 0), none, none, none, some (.ref s0)]) (st := []) (σ := (wi σ 0 9 (gi σ s0 6))) rfl ((fX0_refuse_ok _ _ q34 h35).deep (Nat.le_of_ble_eq_true rfl)) ?_
  cases hf
  exact go_r rfl
def fX0_rules (x1 : Int32) (σ : Sg) : Option (Int32 × Sg) :=
  (fX0_isDesk x1).bind fun q1 => if q1 ≠ 0 then (fJ2_size 4 (wi σ 0 8 0)).bind fun q4 => if q4 ≠ 20 then (am_new (wi σ 0 8 0) (23, 0) 7).bind fun σ8 => (fX15_init (gz (wi σ 0 8 0)) 27 (gi σ 0 8) σ8).bind fun q9 => if (kk q9 (gz (wi σ 0 8 0))) = 23 then ((fX15_read (gz (wi σ 0 8 0)) q9).bind fun q12 => match q12 with
  | (.inl v14, τ15) => (am_new (wi τ15 0 9 (-1)) (34, 0) 3).bind fun σ18 => (fJ2_size 4 σ18).bind fun q19 => if [23].elem (kk σ18 (gz (wi σ 0 8 0))) = true then (match (rf σ18 (gz (wi σ 0 8 0)) 2) with
  | some a21 => (fX27_init (gz (wi τ15 0 9 (-1))) q19 x1 a21 σ18).bind fun q24 => (fJ2_add 4 (gz (wi τ15 0 9 (-1))) q24).bind fun q26 => (fJ2_size 4 q26.2).bind fun q28 => (fX0_told (q28 - 1) q26.2).bind fun q30 => some (q30.1, q30.2)
  | none => none) else none
  | (.inr (ec, ea), τ15) => if ec = 1 then fX0_rules_J65 ea  τ15 else none) else none else (fX0_refuse (-5) (wi σ 0 8 0)).bind fun q37 => some (q37.1, q37.2) else (fX0_refuse (-1) (wi σ 0 8 0)).bind fun q39 => some (q39.1, q39.2)
set_option maxHeartbeats 1500000 in
theorem fX0_rules_ok (x1 : Int32) (σ : Sg) (r : (Int32 × Sg)) (hf : fX0_rules x1 σ = some r) : Cl true 634 5164 [.ref 0, .int x1] σ (.inl (some (.int (r).1)), (r).2) := by
  refine ⟨iX0_rules, rfl, Nat.le_of_ble_eq_true rfl, Nat.le_of_ble_eq_true rfl, ?_⟩
  show Go true 634 iX0_rules (0, [some (.ref 0), some (.int x1), none, none, none], [], σ) (.inl (some (.int (r).1)), (r).2)
  unfold fX0_rules at hf
  refine go_n 6 (f := (10, [some (.ref 0), some (.int x1), some (.int (gi σ 0 8)), none, none], [], (wi σ 0 8 0))) rfl ?_
  refine go_n 1 (f := (11, [some (.ref 0), some (.int x1), some (.int (gi σ 0 8)), none, none], [.int x1], (wi σ 0 8 0))) rfl ?_
  obtain ⟨q1, h2, hf⟩ := bnd hf
  refine go_c (mid := 5147) (args := [.int x1]) (pc := 14) (L := [some (.ref 0), some (.int x1), some (.int (gi σ 0 8)), none, none]) (st := []) (σ := (wi σ 0 8 0)) rfl ((fX0_isDesk_ok _ _ q1 h2).deep (Nat.le_of_ble_eq_true rfl)) ?_
  by_cases h3 : q1 ≠ 0
  · rw [if_pos h3] at hf
    refine go_it (t := 23) (f := 17) (L1 := [some (.ref 0), some (.int x1), some (.int (gi σ 0 8)), none, none]) (st1 := []) (σ1 := (wi σ 0 8 0)) rfl h3 ?_
    refine go_n 3 (f := (30, [some (.ref 0), some (.int x1), some (.int (gi σ 0 8)), none, none], [.ref 4], (wi σ 0 8 0))) rfl ?_
    obtain ⟨q4, h5, hf⟩ := bnd hf
    refine go_c (mid := 2821) (args := [.ref 4]) (pc := 33) (L := [some (.ref 0), some (.int x1), some (.int (gi σ 0 8)), none, none]) (st := []) (σ := (wi σ 0 8 0)) rfl ((fJ2_size_ok _ _ q4 h5).deep (Nat.le_of_ble_eq_true rfl)) ?_
    refine go_n 1 (f := (35, [some (.ref 0), some (.int x1), some (.int (gi σ 0 8)), none, none], [.int 20, .int q4], (wi σ 0 8 0))) rfl ?_
    by_cases h6 : q4 ≠ 20
    · rw [if_pos h6] at hf
      refine go_it (t := 45) (f := 38) (L1 := [some (.ref 0), some (.int x1), some (.int (gi σ 0 8)), none, none]) (st1 := []) (σ1 := (wi σ 0 8 0)) rfl h6 ?_
      obtain ⟨σ8, h7, hf⟩ := bnd hf
      refine go_new rfl rfl rfl h7 ?_
      refine go_n 4 (f := (54, [some (.ref 0), some (.int x1), some (.int (gi σ 0 8)), none, none], [.int (gi σ 0 8), .ref 27, .ref (gz (wi σ 0 8 0)), .ref (gz (wi σ 0 8 0))], σ8)) rfl ?_
      obtain ⟨q9, h10, hf⟩ := bnd hf
      refine go_c (mid := 6912) (args := [.ref (gz (wi σ 0 8 0)), .ref 27, .int (gi σ 0 8)]) (pc := 57) (L := [some (.ref 0), some (.int x1), some (.int (gi σ 0 8)), none, none]) (st := [.ref (gz (wi σ 0 8 0))]) (σ := σ8) rfl ((fX15_init_ok _ _ _ _ q9 h10).deep (Nat.le_of_ble_eq_true rfl)) ?_
      refine go_n 2 (f := (59, [some (.ref 0), some (.int x1), some (.int (gi σ 0 8)), some (.ref (gz (wi σ 0 8 0))), none], [.ref (gz (wi σ 0 8 0))], q9)) rfl ?_
      obtain ⟨h11, hf⟩ := grd hf
      obtain ⟨⟨v14 | ⟨ec, ea⟩, τ15⟩, h13, hf⟩ := bnd hf
      · try dsimp only at hf
        refine go_c (mid := 6913) (args := [.ref (gz (wi σ 0 8 0))]) (pc := 62) (L := [some (.ref 0), some (.int x1), some (.int (gi σ 0 8)), some (.ref (gz (wi σ 0 8 0))), none]) (st := []) (σ := q9) (stp_callV1 (n := 1) rfl rfl rfl ⟨Nat.le_of_ble_eq_true rfl, Nat.le_of_ble_eq_true rfl⟩ rfl h11 rfl) ((fX15_read_ok _ _ _ h13).deep (Nat.le_of_ble_eq_true rfl)) ?_
        refine go_n 7 (f := (95, [some (.ref 0), some (.int x1), some (.int (gi σ 0 8)), some (.ref (gz (wi σ 0 8 0))), none], [.ref 4], (wi τ15 0 9 (-1)))) rfl ?_
        obtain ⟨σ18, h17, hf⟩ := bnd hf
        refine go_new rfl rfl rfl h17 ?_
        refine go_n 4 (f := (106, [some (.ref 0), some (.int x1), some (.int (gi σ 0 8)), some (.ref (gz (wi σ 0 8 0))), none], [.ref 4, .ref (gz (wi τ15 0 9 (-1))), .ref (gz (wi τ15 0 9 (-1))), .ref 4], σ18)) rfl ?_
        obtain ⟨q19, h20, hf⟩ := bnd hf
        refine go_c (mid := 2821) (args := [.ref 4]) (pc := 109) (L := [some (.ref 0), some (.int x1), some (.int (gi σ 0 8)), some (.ref (gz (wi σ 0 8 0))), none]) (st := [.ref (gz (wi τ15 0 9 (-1))), .ref (gz (wi τ15 0 9 (-1))), .ref 4]) (σ := σ18) rfl ((fJ2_size_ok _ _ q19 h20).deep (Nat.le_of_ble_eq_true rfl)) ?_
        refine go_n 2 (f := (111, [some (.ref 0), some (.int x1), some (.int (gi σ 0 8)), some (.ref (gz (wi σ 0 8 0))), none], [.ref (gz (wi σ 0 8 0)), .int x1, .int q19, .ref (gz (wi τ15 0 9 (-1))), .ref (gz (wi τ15 0 9 (-1))), .ref 4], σ18)) rfl ?_
        obtain ⟨h22, hf⟩ := grd hf
        refine go_get rfl rfl rfl h22 ?_
        show Go true 634 iX0_rules (114, [some (.ref 0), some (.int x1), some (.int (gi σ 0 8)), some (.ref (gz (wi σ 0 8 0))), none], va_rf (rf σ18 (gz (wi σ 0 8 0)) 2) :: [.int x1, .int q19, .ref (gz (wi τ15 0 9 (-1))), .ref (gz (wi τ15 0 9 (-1))), .ref 4], σ18) _
        generalize hR23 : (rf σ18 (gz (wi σ 0 8 0)) 2) = h32 at hf ⊢
        cases h32 with
        | none =>
          cases hf
        | some a21 =>
          obtain ⟨q24, h25, hf⟩ := bnd hf
          refine go_c (mid := 10240) (args := [.ref (gz (wi τ15 0 9 (-1))), .int q19, .int x1, .ref a21]) (pc := 117) (L := [some (.ref 0), some (.int x1), some (.int (gi σ 0 8)), some (.ref (gz (wi σ 0 8 0))), none]) (st := [.ref (gz (wi τ15 0 9 (-1))), .ref 4]) (σ := σ18) rfl ((fX27_init_ok _ _ _ _ _ q24 h25).deep (Nat.le_of_ble_eq_true rfl)) ?_
          obtain ⟨q26, h27, hf⟩ := bnd hf
          refine go_c (mid := 2822) (args := [.ref 4, .ref (gz (wi τ15 0 9 (-1)))]) (pc := 120) (L := [some (.ref 0), some (.int x1), some (.int (gi σ 0 8)), some (.ref (gz (wi σ 0 8 0))), none]) (st := []) (σ := q24) rfl ((fJ2_add_ok _ _ _ q26 h27).deep (Nat.le_of_ble_eq_true rfl)) ?_
          refine go_n 5 (f := (129, [some (.ref 0), some (.int x1), some (.int (gi σ 0 8)), some (.ref (gz (wi σ 0 8 0))), none], [.ref 4, .ref 0], q26.2)) rfl ?_
          obtain ⟨q28, h29, hf⟩ := bnd hf
          refine go_c (mid := 2821) (args := [.ref 4]) (pc := 132) (L := [some (.ref 0), some (.int x1), some (.int (gi σ 0 8)), some (.ref (gz (wi σ 0 8 0))), none]) (st := [.ref 0]) (σ := q26.2) rfl ((fJ2_size_ok _ _ q28 h29).deep (Nat.le_of_ble_eq_true rfl)) ?_
          refine go_n 2 (f := (134, [some (.ref 0), some (.int x1), some (.int (gi σ 0 8)), some (.ref (gz (wi σ 0 8 0))), none], [.int (q28 - 1), .ref 0], q26.2)) rfl ?_
          obtain ⟨q30, h31, hf⟩ := bnd hf
          refine go_c (mid := 5136) (args := [.ref 0, .int (q28 - 1)]) (pc := 137) (L := [some (.ref 0), some (.int x1), some (.int (gi σ 0 8)), some (.ref (gz (wi σ 0 8 0))), none]) (st := []) (σ := q26.2) rfl ((fX0_told_ok _ _ q30 h31).deep (Nat.le_of_ble_eq_true rfl)) ?_
          cases hf
          exact go_r rfl
      · try dsimp only at hf
        obtain ⟨h36, hf⟩ := grd hf
        subst h36
        refine go_cc (f := (65, [some (.ref 0), some (.int x1), some (.int (gi σ 0 8)), some (.ref (gz (wi σ 0 8 0))), none], [.ref ea], τ15)) (mid := 6913) (args := [.ref (gz (wi σ 0 8 0))]) (pc := 62) (L := [some (.ref 0), some (.int x1), some (.int (gi σ 0 8)), some (.ref (gz (wi σ 0 8 0))), none]) (st := []) (σ := q9) (stp_callV1 (n := 1) rfl rfl rfl ⟨Nat.le_of_ble_eq_true rfl, Nat.le_of_ble_eq_true rfl⟩ rfl h11 rfl) ((fX15_read_ok _ _ _ h13).deep (Nat.le_of_ble_eq_true rfl)) rfl ?_
        refine go_e (L1 := [some (.ref 0), none, none, none, none]) rfl rfl ?_
        exact fX0_rules_J65_ok _  _  _ hf
    · rw [if_neg h6] at hf
      refine go_if (t := 45) (f := 38) (L1 := [some (.ref 0), some (.int x1), some (.int (gi σ 0 8)), none, none]) (st1 := []) (σ1 := (wi σ 0 8 0)) rfl h6 ?_
      refine go_n 2 (f := (41, [some (.ref 0), some (.int x1), some (.int (gi σ 0 8)), none, none], [.int (-5), .ref 0], (wi σ 0 8 0))) rfl ?_
      obtain ⟨q37, h38, hf⟩ := bnd hf
      refine go_c (mid := 5133) (args := [.ref 0, .int (-5)]) (pc := 44) (L := [some (.ref 0), some (.int x1), some (.int (gi σ 0 8)), none, none]) (st := []) (σ := (wi σ 0 8 0)) rfl ((fX0_refuse_ok _ _ q37 h38).deep (Nat.le_of_ble_eq_true rfl)) ?_
      cases hf
      exact go_r rfl
  · rw [if_neg h3] at hf
    refine go_if (t := 23) (f := 17) (L1 := [some (.ref 0), some (.int x1), some (.int (gi σ 0 8)), none, none]) (st1 := []) (σ1 := (wi σ 0 8 0)) rfl h3 ?_
    refine go_n 2 (f := (19, [some (.ref 0), some (.int x1), some (.int (gi σ 0 8)), none, none], [.int (-1), .ref 0], (wi σ 0 8 0))) rfl ?_
    obtain ⟨q39, h40, hf⟩ := bnd hf
    refine go_c (mid := 5133) (args := [.ref 0, .int (-1)]) (pc := 22) (L := [some (.ref 0), some (.int x1), some (.int (gi σ 0 8)), none, none]) (st := []) (σ := (wi σ 0 8 0)) rfl ((fX0_refuse_ok _ _ q39 h40).deep (Nat.le_of_ble_eq_true rfl)) ?_
    cases hf
    exact go_r rfl
/-! OldWeather$Turned.of(LOldWeather$Setting;)J -/
def fX19_of (RO : Nat → Nat → Sg → Option (Int64 ⊕ (Nat × Nat))) (x0 : Nat) (x1 : Nat) (σ : Sg) : Option (Int64 ⊕ (Nat × Nat)) :=
  if [27].elem (kk σ x0) = true then (match (rf σ x0 0) with
  | some a1 => ((RO a1 x1 σ).bind fun q4 => match q4 with
  | .inl v9 => some (.inl (-v9))
  | .inr e11 => some (.inr e11))
  | none => none) else none
set_option maxHeartbeats 1500000 in
theorem fX19_of_ok (RO : Nat → Nat → Sg → Option (Int64 ⊕ (Nat × Nat))) (d : Nat) (hRO : ∀ (x0 x1 : Nat) (σ : Sg) (r : Int64 ⊕ (Nat × Nat)), RO x0 x1 σ = some r → ∃ mid, am_dis [(27, 7937), (28, 8449), (29, 8705), (30, 8961)] (kdT true σ x0).1 = some mid ∧ Cl true d mid [.ref x0, .ref x1] σ (am_outL (r, σ))) (x0 : Nat) (x1 : Nat) (σ : Sg) (r : (Int64 ⊕ (Nat × Nat))) (hf : fX19_of RO x0 x1 σ = some r) : Cl true (d + 1) 7937 [.ref x0, .ref x1] σ (am_outL (r, σ)) := by
  refine ⟨iX19_of, rfl, Nat.le_of_ble_eq_true rfl, Nat.le_of_ble_eq_true rfl, ?_⟩
  show Go true (d + 1) iX19_of (0, [some (.ref x0), some (.ref x1)], [], σ) (am_outL (r, σ))
  unfold fX19_of at hf
  refine go_n 1 (f := (1, [some (.ref x0), some (.ref x1)], [.ref x0], σ)) rfl ?_
  obtain ⟨h2, hf⟩ := grd hf
  refine go_get rfl rfl rfl h2 ?_
  show Go true (d + 1) iX19_of (4, [some (.ref x0), some (.ref x1)], va_rf (rf σ x0 0) :: [], σ) _
  generalize hR3 : (rf σ x0 0) = h12 at hf ⊢
  cases h12 with
  | none =>
    cases hf
  | some a1 =>
    refine go_n 1 (f := (5, [some (.ref x0), some (.ref x1)], [.ref x1, .ref a1], σ)) rfl ?_
    obtain ⟨v9 | e11, h5, hf⟩ := bnd hf
    · try dsimp only at hf
      obtain ⟨m8, h6, h7⟩ := hRO _ _ _ _ h5
      refine go_c (mid := m8) (args := [.ref a1, .ref x1]) (pc := 8) (L := [some (.ref x0), some (.ref x1)]) (st := []) (σ := σ) (stp_callV (n := 2) rfl rfl rfl ⟨Nat.le_of_ble_eq_true rfl, Nat.le_of_ble_eq_true rfl⟩ rfl h6) (h7.deep (by omega)) ?_
      refine go_n 1 (f := (9, [some (.ref x0), some (.ref x1)], [.long (-v9)], σ)) rfl ?_
      cases hf
      exact go_r rfl
    · try dsimp only at hf
      cases hf
      obtain ⟨ec, ea⟩ := e11
      obtain ⟨m8, h6, h7⟩ := hRO _ _ _ _ h5
      exact go_ct (mid := m8) (args := [.ref a1, .ref x1]) (pc := 8) (L := [some (.ref x0), some (.ref x1)]) (st := []) (σ := σ) (stp_callV (n := 2) rfl rfl rfl ⟨Nat.le_of_ble_eq_true rfl, Nat.le_of_ble_eq_true rfl⟩ rfl h6) (h7.deep (by omega)) rfl
/-! OldWeather$Number.of(LOldWeather$Setting;)J -/
def fX20_of (RO : Nat → Nat → Sg → Option (Int64 ⊕ (Nat × Nat))) (x0 : Nat) (x1 : Nat) (σ : Sg) : Option (Int64 ⊕ (Nat × Nat)) :=
  if [28].elem (kk σ x0) = true then some (.inl (gi σ x0 0).toInt64) else none
set_option maxHeartbeats 1500000 in
theorem fX20_of_ok (RO : Nat → Nat → Sg → Option (Int64 ⊕ (Nat × Nat))) (d : Nat) (hRO : ∀ (x0 x1 : Nat) (σ : Sg) (r : Int64 ⊕ (Nat × Nat)), RO x0 x1 σ = some r → ∃ mid, am_dis [(27, 7937), (28, 8449), (29, 8705), (30, 8961)] (kdT true σ x0).1 = some mid ∧ Cl true d mid [.ref x0, .ref x1] σ (am_outL (r, σ))) (x0 : Nat) (x1 : Nat) (σ : Sg) (r : (Int64 ⊕ (Nat × Nat))) (hf : fX20_of RO x0 x1 σ = some r) : Cl true (d + 0) 8449 [.ref x0, .ref x1] σ (am_outL (r, σ)) := by
  refine ⟨iX20_of, rfl, Nat.le_of_ble_eq_true rfl, Nat.le_of_ble_eq_true rfl, ?_⟩
  show Go true (d + 0) iX20_of (0, [some (.ref x0), some (.ref x1)], [], σ) (am_outL (r, σ))
  unfold fX20_of at hf
  refine go_n 1 (f := (1, [some (.ref x0), some (.ref x1)], [.ref x0], σ)) rfl ?_
  obtain ⟨h1, hf⟩ := grd hf
  refine go_get rfl rfl rfl h1 ?_
  refine go_n 1 (f := (5, [some (.ref x0), some (.ref x1)], [.long (gi σ x0 0).toInt64], σ)) rfl ?_
  cases hf
  exact go_r rfl
/-! OldWeather$Field.of(LOldWeather$Setting;)J -/
def fX21_of (RO : Nat → Nat → Sg → Option (Int64 ⊕ (Nat × Nat))) (x0 : Nat) (x1 : Nat) (σ : Sg) : Option (Int64 ⊕ (Nat × Nat)) :=
  if [29].elem (kk σ x0) = true then if x1 = 31 then (fX3_field (gi σ x0 0) σ).bind fun q3 => some (.inl q3) else none else none
set_option maxHeartbeats 1500000 in
theorem fX21_of_ok (RO : Nat → Nat → Sg → Option (Int64 ⊕ (Nat × Nat))) (d : Nat) (hRO : ∀ (x0 x1 : Nat) (σ : Sg) (r : Int64 ⊕ (Nat × Nat)), RO x0 x1 σ = some r → ∃ mid, am_dis [(27, 7937), (28, 8449), (29, 8705), (30, 8961)] (kdT true σ x0).1 = some mid ∧ Cl true d mid [.ref x0, .ref x1] σ (am_outL (r, σ))) (x0 : Nat) (x1 : Nat) (σ : Sg) (r : (Int64 ⊕ (Nat × Nat))) (hf : fX21_of RO x0 x1 σ = some r) : Cl true (d + 1) 8705 [.ref x0, .ref x1] σ (am_outL (r, σ)) := by
  refine ⟨iX21_of, rfl, Nat.le_of_ble_eq_true rfl, Nat.le_of_ble_eq_true rfl, ?_⟩
  show Go true (d + 1) iX21_of (0, [some (.ref x0), some (.ref x1)], [], σ) (am_outL (r, σ))
  unfold fX21_of at hf
  refine go_n 2 (f := (2, [some (.ref x0), some (.ref x1)], [.ref x0, .ref x1], σ)) rfl ?_
  obtain ⟨h1, hf⟩ := grd hf
  refine go_get rfl rfl rfl h1 ?_
  obtain ⟨h2, hf⟩ := grd hf
  obtain ⟨q3, h4, hf⟩ := bnd hf
  refine go_c (mid := 11009) (args := [.ref x1, .int (gi σ x0 0)]) (pc := 8) (L := [some (.ref x0), some (.ref x1)]) (st := []) (σ := σ) (stp_callV1 (n := 2) (k := 13) rfl rfl rfl ⟨Nat.le_of_ble_eq_true rfl, Nat.le_of_ble_eq_true rfl⟩ rfl (by rw [h2]; rfl) rfl) (cl_rf h2 ((fX3_field_ok _ _ q3 h4).deep (by omega))) ?_
  cases hf
  exact go_r rfl
/-! OldWeather$Two.of(LOldWeather$Setting;)J -/
def fX22_of_J112 (RO : Nat → Nat → Sg → Option (Int64 ⊕ (Nat × Nat))) (x1 : Nat)  (σ : Sg) : Option (Int64 ⊕ (Nat × Nat)) :=
  if [13].elem (kk σ x1) = true then (match (rf σ x1 0) with
  | some a32 => if (kk σ a32) = 25 then some (.inr (2, a32)) else none
  | none => none) else none
set_option maxHeartbeats 1500000 in
theorem fX22_of_J112_ok (RO : Nat → Nat → Sg → Option (Int64 ⊕ (Nat × Nat))) (d : Nat) (hRO : ∀ (x0 x1 : Nat) (σ : Sg) (r : Int64 ⊕ (Nat × Nat)), RO x0 x1 σ = some r → ∃ mid, am_dis [(27, 7937), (28, 8449), (29, 8705), (30, 8961)] (kdT true σ x0).1 = some mid ∧ Cl true d mid [.ref x0, .ref x1] σ (am_outL (r, σ))) (x1 : Nat)  (σ : Sg)  (r : (Int64 ⊕ (Nat × Nat))) (hf : fX22_of_J112 RO x1  σ = some r) : Go true (d + 1) iX22_of (112, [none, some (.ref x1), none, none, none, none, none, none], [], σ) (am_outL (r, σ)) := by
  unfold fX22_of_J112 at hf
  refine go_n 1 (f := (113, [none, some (.ref x1), none, none, none, none, none, none], [.ref x1], σ)) rfl ?_
  obtain ⟨h33, hf⟩ := grd hf
  refine go_get rfl rfl rfl h33 ?_
  show Go true (d + 1) iX22_of (116, [none, some (.ref x1), none, none, none, none, none, none], va_rf (rf σ x1 0) :: [], σ) _
  generalize hR34 : (rf σ x1 0) = h36 at hf ⊢
  cases h36 with
  | none =>
    cases hf
  | some a32 =>
    obtain ⟨h35, hf⟩ := grd hf
    cases hf
    exact go_t (am_thr25 rfl rfl h35) rfl
def fX22_of_J92 (RO : Nat → Nat → Sg → Option (Int64 ⊕ (Nat × Nat))) (x1 : Nat) (s0 : Int64)  (σ : Sg) : Option (Int64 ⊕ (Nat × Nat)) :=
  if 1000000 < s0 then fX22_of_J112 RO x1  σ else if (-1000000) ≤ s0 then some (.inl s0) else fX22_of_J112 RO x1  σ
set_option maxHeartbeats 1500000 in
theorem fX22_of_J92_ok (RO : Nat → Nat → Sg → Option (Int64 ⊕ (Nat × Nat))) (d : Nat) (hRO : ∀ (x0 x1 : Nat) (σ : Sg) (r : Int64 ⊕ (Nat × Nat)), RO x0 x1 σ = some r → ∃ mid, am_dis [(27, 7937), (28, 8449), (29, 8705), (30, 8961)] (kdT true σ x0).1 = some mid ∧ Cl true d mid [.ref x0, .ref x1] σ (am_outL (r, σ))) (x1 : Nat) (s0 : Int64)  (σ : Sg)  (r : (Int64 ⊕ (Nat × Nat))) (hf : fX22_of_J92 RO x1 s0  σ = some r) : Go true (d + 1) iX22_of (92, [none, some (.ref x1), none, none, none, none, none, none], [.long s0], σ) (am_outL (r, σ)) := by
  unfold fX22_of_J92 at hf
  refine go_n 4 (f := (100, [none, some (.ref x1), none, none, none, none, some (.long s0), none], [.int (lg_cmp s0 1000000)], σ)) rfl ?_
  by_cases h31 : 1000000 < s0
  · rw [if_pos h31] at hf
    refine go_it (t := 112) (f := 103) (L1 := [none, some (.ref x1), none, none, none, none, some (.long s0), none]) (st1 := []) (σ1 := σ) rfl ((lgc_gt s0 1000000).mpr h31) ?_
    refine go_e (L1 := [none, some (.ref x1), none, none, none, none, none, none]) rfl rfl ?_
    exact fX22_of_J112_ok _ _ hRO _  _  _ hf
  · rw [if_neg h31] at hf
    refine go_if (t := 112) (f := 103) (L1 := [none, some (.ref x1), none, none, none, none, some (.long s0), none]) (st1 := []) (σ1 := σ) rfl (fun q => h31 ((lgc_gt s0 1000000).mp q)) ?_
    refine go_n 3 (f := (109, [none, some (.ref x1), none, none, none, none, some (.long s0), none], [.int (lg_cmp s0 (-1000000))], σ)) rfl ?_
    by_cases h37 : (-1000000) ≤ s0
    · rw [if_pos h37] at hf
      refine go_it (t := 117) (f := 112) (L1 := [none, some (.ref x1), none, none, none, none, some (.long s0), none]) (st1 := []) (σ1 := σ) rfl ((lgc_ge s0 (-1000000)).mpr h37) ?_
      refine go_n 1 (f := (119, [none, some (.ref x1), none, none, none, none, some (.long s0), none], [.long s0], σ)) rfl ?_
      cases hf
      exact go_r rfl
    · rw [if_neg h37] at hf
      refine go_if (t := 117) (f := 112) (L1 := [none, some (.ref x1), none, none, none, none, some (.long s0), none]) (st1 := []) (σ1 := σ) rfl (fun q => h37 ((lgc_ge s0 (-1000000)).mp q)) ?_
      refine go_e (L1 := [none, some (.ref x1), none, none, none, none, none, none]) rfl rfl ?_
      exact fX22_of_J112_ok _ _ hRO _  _  _ hf
def fX22_of_J40 (RO : Nat → Nat → Sg → Option (Int64 ⊕ (Nat × Nat))) (x0 : Nat) (x1 : Nat) (x2 : Int64) (x4 : Int64)  (σ : Sg) : Option (Int64 ⊕ (Nat × Nat)) :=
  if [30].elem (kk σ x0) = true then if (gi σ x0 0) ≠ 43 then if [30].elem (kk σ x0) = true then if (gi σ x0 0) ≠ 45 then if [30].elem (kk σ x0) = true then if (gi σ x0 0) ≠ 42 then if ¬ x4 = 0 then fX22_of_J92 RO x1 (x2 / x4)  σ else none else fX22_of_J92 RO x1 (x2 * x4)  σ else none else fX22_of_J92 RO x1 (x2 - x4)  σ else none else fX22_of_J92 RO x1 (x2 + x4)  σ else none
set_option maxHeartbeats 1500000 in
theorem fX22_of_J40_ok (RO : Nat → Nat → Sg → Option (Int64 ⊕ (Nat × Nat))) (d : Nat) (hRO : ∀ (x0 x1 : Nat) (σ : Sg) (r : Int64 ⊕ (Nat × Nat)), RO x0 x1 σ = some r → ∃ mid, am_dis [(27, 7937), (28, 8449), (29, 8705), (30, 8961)] (kdT true σ x0).1 = some mid ∧ Cl true d mid [.ref x0, .ref x1] σ (am_outL (r, σ))) (x0 : Nat) (x1 : Nat) (x2 : Int64) (x4 : Int64)  (σ : Sg)  (r : (Int64 ⊕ (Nat × Nat))) (hf : fX22_of_J40 RO x0 x1 x2 x4  σ = some r) : Go true (d + 1) iX22_of (40, [some (.ref x0), some (.ref x1), some (.long x2), none, some (.long x4), none, none, none], [], σ) (am_outL (r, σ)) := by
  unfold fX22_of_J40 at hf
  refine go_n 1 (f := (41, [some (.ref x0), some (.ref x1), some (.long x2), none, some (.long x4), none, none, none], [.ref x0], σ)) rfl ?_
  obtain ⟨h25, hf⟩ := grd hf
  refine go_get rfl rfl rfl h25 ?_
  refine go_n 1 (f := (46, [some (.ref x0), some (.ref x1), some (.long x2), none, some (.long x4), none, none, none], [.int 43, .int (gi σ x0 0)], σ)) rfl ?_
  by_cases h26 : (gi σ x0 0) ≠ 43
  · rw [if_pos h26] at hf
    refine go_it (t := 56) (f := 49) (L1 := [some (.ref x0), some (.ref x1), some (.long x2), none, some (.long x4), none, none, none]) (st1 := []) (σ1 := σ) rfl h26 ?_
    refine go_n 1 (f := (57, [some (.ref x0), some (.ref x1), some (.long x2), none, some (.long x4), none, none, none], [.ref x0], σ)) rfl ?_
    obtain ⟨h27, hf⟩ := grd hf
    refine go_get rfl rfl rfl h27 ?_
    refine go_n 1 (f := (62, [some (.ref x0), some (.ref x1), some (.long x2), none, some (.long x4), none, none, none], [.int 45, .int (gi σ x0 0)], σ)) rfl ?_
    by_cases h28 : (gi σ x0 0) ≠ 45
    · rw [if_pos h28] at hf
      refine go_it (t := 72) (f := 65) (L1 := [some (.ref x0), some (.ref x1), some (.long x2), none, some (.long x4), none, none, none]) (st1 := []) (σ1 := σ) rfl h28 ?_
      refine go_n 1 (f := (73, [some (.ref x0), some (.ref x1), some (.long x2), none, some (.long x4), none, none, none], [.ref x0], σ)) rfl ?_
      obtain ⟨h29, hf⟩ := grd hf
      refine go_get rfl rfl rfl h29 ?_
      refine go_n 1 (f := (78, [some (.ref x0), some (.ref x1), some (.long x2), none, some (.long x4), none, none, none], [.int 42, .int (gi σ x0 0)], σ)) rfl ?_
      by_cases h30 : (gi σ x0 0) ≠ 42
      · rw [if_pos h30] at hf
        refine go_it (t := 88) (f := 81) (L1 := [some (.ref x0), some (.ref x1), some (.long x2), none, some (.long x4), none, none, none]) (st1 := []) (σ1 := σ) rfl h30 ?_
        refine go_n 2 (f := (91, [some (.ref x0), some (.ref x1), some (.long x2), none, some (.long x4), none, none, none], [.long x4, .long x2], σ)) rfl ?_
        obtain ⟨h38, hf⟩ := grd hf
        refine go_ldiv rfl rfl h38 ?_
        refine go_e (L1 := [none, some (.ref x1), none, none, none, none, none, none]) rfl rfl ?_
        exact fX22_of_J92_ok _ _ hRO _ _  _  _ hf
      · rw [if_neg h30] at hf
        refine go_if (t := 88) (f := 81) (L1 := [some (.ref x0), some (.ref x1), some (.long x2), none, some (.long x4), none, none, none]) (st1 := []) (σ1 := σ) rfl h30 ?_
        refine go_n 4 (f := (92, [some (.ref x0), some (.ref x1), some (.long x2), none, some (.long x4), none, none, none], [.long (x2 * x4)], σ)) rfl ?_
        refine go_e (L1 := [none, some (.ref x1), none, none, none, none, none, none]) rfl rfl ?_
        exact fX22_of_J92_ok _ _ hRO _ _  _  _ hf
    · rw [if_neg h28] at hf
      refine go_if (t := 72) (f := 65) (L1 := [some (.ref x0), some (.ref x1), some (.long x2), none, some (.long x4), none, none, none]) (st1 := []) (σ1 := σ) rfl h28 ?_
      refine go_n 4 (f := (92, [some (.ref x0), some (.ref x1), some (.long x2), none, some (.long x4), none, none, none], [.long (x2 - x4)], σ)) rfl ?_
      refine go_e (L1 := [none, some (.ref x1), none, none, none, none, none, none]) rfl rfl ?_
      exact fX22_of_J92_ok _ _ hRO _ _  _  _ hf
  · rw [if_neg h26] at hf
    refine go_if (t := 56) (f := 49) (L1 := [some (.ref x0), some (.ref x1), some (.long x2), none, some (.long x4), none, none, none]) (st1 := []) (σ1 := σ) rfl h26 ?_
    refine go_n 4 (f := (92, [some (.ref x0), some (.ref x1), some (.long x2), none, some (.long x4), none, none, none], [.long (x2 + x4)], σ)) rfl ?_
    refine go_e (L1 := [none, some (.ref x1), none, none, none, none, none, none]) rfl rfl ?_
    exact fX22_of_J92_ok _ _ hRO _ _  _  _ hf
def fX22_of (RO : Nat → Nat → Sg → Option (Int64 ⊕ (Nat × Nat))) (x0 : Nat) (x1 : Nat) (σ : Sg) : Option (Int64 ⊕ (Nat × Nat)) :=
  if [30].elem (kk σ x0) = true then (match (rf σ x0 1) with
  | some a1 => ((RO a1 x1 σ).bind fun q4 => match q4 with
  | .inl v9 => if [30].elem (kk σ x0) = true then (match (rf σ x0 2) with
  | some a12 => ((RO a12 x1 σ).bind fun q15 => match q15 with
  | .inl v20 => if [30].elem (kk σ x0) = true then if (gi σ x0 0) ≠ 47 then fX22_of_J40 RO x0 x1 v9 v20  σ else if v20 ≠ 0 then fX22_of_J40 RO x0 x1 v9 v20  σ else if [13].elem (kk σ x1) = true then (match (rf σ x1 0) with
  | some a40 => if (kk σ a40) = 25 then some (.inr (2, a40)) else none
  | none => none) else none else none
  | .inr e22 => some (.inr e22))
  | none => none) else none
  | .inr e11 => some (.inr e11))
  | none => none) else none
set_option maxHeartbeats 1500000 in
theorem fX22_of_ok (RO : Nat → Nat → Sg → Option (Int64 ⊕ (Nat × Nat))) (d : Nat) (hRO : ∀ (x0 x1 : Nat) (σ : Sg) (r : Int64 ⊕ (Nat × Nat)), RO x0 x1 σ = some r → ∃ mid, am_dis [(27, 7937), (28, 8449), (29, 8705), (30, 8961)] (kdT true σ x0).1 = some mid ∧ Cl true d mid [.ref x0, .ref x1] σ (am_outL (r, σ))) (x0 : Nat) (x1 : Nat) (σ : Sg) (r : (Int64 ⊕ (Nat × Nat))) (hf : fX22_of RO x0 x1 σ = some r) : Cl true (d + 1) 8961 [.ref x0, .ref x1] σ (am_outL (r, σ)) := by
  refine ⟨iX22_of, rfl, Nat.le_of_ble_eq_true rfl, Nat.le_of_ble_eq_true rfl, ?_⟩
  show Go true (d + 1) iX22_of (0, [some (.ref x0), some (.ref x1), none, none, none, none, none, none], [], σ) (am_outL (r, σ))
  unfold fX22_of at hf
  refine go_n 1 (f := (1, [some (.ref x0), some (.ref x1), none, none, none, none, none, none], [.ref x0], σ)) rfl ?_
  obtain ⟨h2, hf⟩ := grd hf
  refine go_get rfl rfl rfl h2 ?_
  show Go true (d + 1) iX22_of (4, [some (.ref x0), some (.ref x1), none, none, none, none, none, none], va_rf (rf σ x0 1) :: [], σ) _
  generalize hR3 : (rf σ x0 1) = h46 at hf ⊢
  cases h46 with
  | none =>
    cases hf
  | some a1 =>
    refine go_n 1 (f := (5, [some (.ref x0), some (.ref x1), none, none, none, none, none, none], [.ref x1, .ref a1], σ)) rfl ?_
    obtain ⟨v9 | e11, h5, hf⟩ := bnd hf
    · try dsimp only at hf
      obtain ⟨m8, h6, h7⟩ := hRO _ _ _ _ h5
      refine go_c (mid := m8) (args := [.ref a1, .ref x1]) (pc := 8) (L := [some (.ref x0), some (.ref x1), none, none, none, none, none, none]) (st := []) (σ := σ) (stp_callV (n := 2) rfl rfl rfl ⟨Nat.le_of_ble_eq_true rfl, Nat.le_of_ble_eq_true rfl⟩ rfl h6) (h7.deep (by omega)) ?_
      refine go_n 2 (f := (10, [some (.ref x0), some (.ref x1), some (.long v9), none, none, none, none, none], [.ref x0], σ)) rfl ?_
      obtain ⟨h13, hf⟩ := grd hf
      refine go_get rfl rfl rfl h13 ?_
      show Go true (d + 1) iX22_of (13, [some (.ref x0), some (.ref x1), some (.long v9), none, none, none, none, none], va_rf (rf σ x0 2) :: [], σ) _
      generalize hR14 : (rf σ x0 2) = h45 at hf ⊢
      cases h45 with
      | none =>
        cases hf
      | some a12 =>
        refine go_n 1 (f := (14, [some (.ref x0), some (.ref x1), some (.long v9), none, none, none, none, none], [.ref x1, .ref a12], σ)) rfl ?_
        obtain ⟨v20 | e22, h16, hf⟩ := bnd hf
        · try dsimp only at hf
          obtain ⟨m19, h17, h18⟩ := hRO _ _ _ _ h16
          refine go_c (mid := m19) (args := [.ref a12, .ref x1]) (pc := 17) (L := [some (.ref x0), some (.ref x1), some (.long v9), none, none, none, none, none]) (st := []) (σ := σ) (stp_callV (n := 2) rfl rfl rfl ⟨Nat.le_of_ble_eq_true rfl, Nat.le_of_ble_eq_true rfl⟩ rfl h17) (h18.deep (by omega)) ?_
          refine go_n 2 (f := (20, [some (.ref x0), some (.ref x1), some (.long v9), none, some (.long v20), none, none, none], [.ref x0], σ)) rfl ?_
          obtain ⟨h23, hf⟩ := grd hf
          refine go_get rfl rfl rfl h23 ?_
          refine go_n 1 (f := (25, [some (.ref x0), some (.ref x1), some (.long v9), none, some (.long v20), none, none, none], [.int 47, .int (gi σ x0 0)], σ)) rfl ?_
          by_cases h24 : (gi σ x0 0) ≠ 47
          · rw [if_pos h24] at hf
            refine go_it (t := 40) (f := 28) (L1 := [some (.ref x0), some (.ref x1), some (.long v9), none, some (.long v20), none, none, none]) (st1 := []) (σ1 := σ) rfl h24 ?_
            exact fX22_of_J40_ok _ _ hRO _ _ _ _  _  _ hf
          · rw [if_neg h24] at hf
            refine go_if (t := 40) (f := 28) (L1 := [some (.ref x0), some (.ref x1), some (.long v9), none, some (.long v20), none, none, none]) (st1 := []) (σ1 := σ) rfl h24 ?_
            refine go_n 3 (f := (32, [some (.ref x0), some (.ref x1), some (.long v9), none, some (.long v20), none, none, none], [.int (lg_cmp v20 0)], σ)) rfl ?_
            by_cases h39 : v20 ≠ 0
            · rw [if_pos h39] at hf
              refine go_it (t := 40) (f := 35) (L1 := [some (.ref x0), some (.ref x1), some (.long v9), none, some (.long v20), none, none, none]) (st1 := []) (σ1 := σ) rfl ((lgc_ne v20 0).mpr h39) ?_
              exact fX22_of_J40_ok _ _ hRO _ _ _ _  _  _ hf
            · rw [if_neg h39] at hf
              refine go_if (t := 40) (f := 35) (L1 := [some (.ref x0), some (.ref x1), some (.long v9), none, some (.long v20), none, none, none]) (st1 := []) (σ1 := σ) rfl (fun q => h39 ((lgc_ne v20 0).mp q)) ?_
              refine go_n 1 (f := (36, [some (.ref x0), some (.ref x1), some (.long v9), none, some (.long v20), none, none, none], [.ref x1], σ)) rfl ?_
              obtain ⟨h41, hf⟩ := grd hf
              refine go_get rfl rfl rfl h41 ?_
              show Go true (d + 1) iX22_of (39, [some (.ref x0), some (.ref x1), some (.long v9), none, some (.long v20), none, none, none], va_rf (rf σ x1 0) :: [], σ) _
              generalize hR42 : (rf σ x1 0) = h44 at hf ⊢
              cases h44 with
              | none =>
                cases hf
              | some a40 =>
                obtain ⟨h43, hf⟩ := grd hf
                cases hf
                exact go_t (am_thr25 rfl rfl h43) rfl
        · try dsimp only at hf
          cases hf
          obtain ⟨ec, ea⟩ := e22
          obtain ⟨m19, h17, h18⟩ := hRO _ _ _ _ h16
          exact go_ct (mid := m19) (args := [.ref a12, .ref x1]) (pc := 17) (L := [some (.ref x0), some (.ref x1), some (.long v9), none, none, none, none, none]) (st := []) (σ := σ) (stp_callV (n := 2) rfl rfl rfl ⟨Nat.le_of_ble_eq_true rfl, Nat.le_of_ble_eq_true rfl⟩ rfl h17) (h18.deep (by omega)) rfl
    · try dsimp only at hf
      cases hf
      obtain ⟨ec, ea⟩ := e11
      obtain ⟨m8, h6, h7⟩ := hRO _ _ _ _ h5
      exact go_ct (mid := m8) (args := [.ref a1, .ref x1]) (pc := 8) (L := [some (.ref x0), some (.ref x1), none, none, none, none, none, none]) (st := []) (σ := σ) (stp_callV (n := 2) rfl rfl rfl ⟨Nat.le_of_ble_eq_true rfl, Nat.le_of_ble_eq_true rfl⟩ rfl h6) (h7.deep (by omega)) rfl
def rO : Nat → Nat → Nat → Sg → Option (Int64 ⊕ (Nat × Nat))
  | 0 => fun _ _ _ => none
  | n + 1 => fun x0 x1 σ => if kk σ x0 = 27 then fX19_of (rO n) x0 x1 σ else if kk σ x0 = 28 then fX20_of (rO n) x0 x1 σ else if kk σ x0 = 29 then fX21_of (rO n) x0 x1 σ else if kk σ x0 = 30 then fX22_of (rO n) x0 x1 σ else none
set_option maxHeartbeats 1500000 in
theorem rO_ok : ∀ (n : Nat) (x0 x1 : Nat) (σ : Sg) (r : Int64 ⊕ (Nat × Nat)), rO n x0 x1 σ = some r → ∃ mid, am_dis [(27, 7937), (28, 8449), (29, 8705), (30, 8961)] (kdT true σ x0).1 = some mid ∧ Cl true (1 * n) mid [.ref x0, .ref x1] σ (am_outL (r, σ)) := by
  intro n
  induction n with
  | zero => intro x0 x1 σ r h; cases h
  | succ n ih =>
    intro x0 x1 σ r h
    have h : (if kk σ x0 = 27 then fX19_of (rO n) x0 x1 σ else if kk σ x0 = 28 then fX20_of (rO n) x0 x1 σ else if kk σ x0 = 29 then fX21_of (rO n) x0 x1 σ else if kk σ x0 = 30 then fX22_of (rO n) x0 x1 σ else none) = some r := h
    by_cases h27 : kk σ x0 = 27
    · rw [if_pos h27] at h
      exact ⟨7937, by show am_dis _ (kk σ x0) = _; rw [h27]; rfl, (fX19_of_ok (rO n) (1 * n) ih x0 x1 σ r h).deep (by omega)⟩
    rw [if_neg h27] at h
    by_cases h28 : kk σ x0 = 28
    · rw [if_pos h28] at h
      exact ⟨8449, by show am_dis _ (kk σ x0) = _; rw [h28]; rfl, (fX20_of_ok (rO n) (1 * n) ih x0 x1 σ r h).deep (by omega)⟩
    rw [if_neg h28] at h
    by_cases h29 : kk σ x0 = 29
    · rw [if_pos h29] at h
      exact ⟨8705, by show am_dis _ (kk σ x0) = _; rw [h29]; rfl, (fX21_of_ok (rO n) (1 * n) ih x0 x1 σ r h).deep (by omega)⟩
    rw [if_neg h29] at h
    by_cases h30 : kk σ x0 = 30
    · rw [if_pos h30] at h
      exact ⟨8961, by show am_dis _ (kk σ x0) = _; rw [h30]; rfl, (fX22_of_ok (rO n) (1 * n) ih x0 x1 σ r h).deep (by omega)⟩
    rw [if_neg h30] at h
    cases h
/-! OldWeather$Compare.is(LOldWeather$Setting;)Z -/
def fX24_is (RI : Nat → Nat → Sg → Option (Int32 ⊕ (Nat × Nat))) (x0 : Nat) (x1 : Nat) (σ : Sg) : Option (Int32 ⊕ (Nat × Nat)) :=
  if [31].elem (kk σ x0) = true then (match (rf σ x0 1) with
  | some a1 => ((rO 80 a1 x1 σ).bind fun q4 => match q4 with
  | .inl v9 => if [31].elem (kk σ x0) = true then (match (rf σ x0 2) with
  | some a12 => ((rO 80 a12 x1 σ).bind fun q15 => match q15 with
  | .inl v20 => if [31].elem (kk σ x0) = true then if (gi σ x0 0) ≠ 60 then if [31].elem (kk σ x0) = true then ((fun (z29 : Int32) => some (.inl z29)) ((if (gi σ x0 0) ≠ 62 then (if v9 ≠ v20 then 0 else 1) else (if v9 ≤ v20 then 0 else 1)) : Int32)) else none else ((fun (z32 : Int32) => some (.inl z32)) ((if v20 ≤ v9 then 0 else 1) : Int32)) else none
  | .inr e22 => some (.inr e22))
  | none => none) else none
  | .inr e11 => some (.inr e11))
  | none => none) else none
set_option maxHeartbeats 1500000 in
theorem fX24_is_ok (RI : Nat → Nat → Sg → Option (Int32 ⊕ (Nat × Nat))) (d : Nat) (hRI : ∀ (x0 x1 : Nat) (σ : Sg) (r : Int32 ⊕ (Nat × Nat)), RI x0 x1 σ = some r → ∃ mid, am_dis [(31, 9473), (32, 9729), (33, 9985)] (kdT true σ x0).1 = some mid ∧ Cl true d mid [.ref x0, .ref x1] σ (am_outI (r, σ))) (x0 : Nat) (x1 : Nat) (σ : Sg) (r : (Int32 ⊕ (Nat × Nat))) (hf : fX24_is RI x0 x1 σ = some r) : Cl true (d + 81) 9473 [.ref x0, .ref x1] σ (am_outI (r, σ)) := by
  refine ⟨iX24_is, rfl, Nat.le_of_ble_eq_true rfl, Nat.le_of_ble_eq_true rfl, ?_⟩
  show Go true (d + 81) iX24_is (0, [some (.ref x0), some (.ref x1), none, none, none, none], [], σ) (am_outI (r, σ))
  unfold fX24_is at hf
  refine go_n 1 (f := (1, [some (.ref x0), some (.ref x1), none, none, none, none], [.ref x0], σ)) rfl ?_
  obtain ⟨h2, hf⟩ := grd hf
  refine go_get rfl rfl rfl h2 ?_
  show Go true (d + 81) iX24_is (4, [some (.ref x0), some (.ref x1), none, none, none, none], va_rf (rf σ x0 1) :: [], σ) _
  generalize hR3 : (rf σ x0 1) = h35 at hf ⊢
  cases h35 with
  | none =>
    cases hf
  | some a1 =>
    refine go_n 1 (f := (5, [some (.ref x0), some (.ref x1), none, none, none, none], [.ref x1, .ref a1], σ)) rfl ?_
    obtain ⟨v9 | e11, h5, hf⟩ := bnd hf
    · try dsimp only at hf
      obtain ⟨m8, h6, h7⟩ := rO_ok 80 _ _ _ _ h5
      refine go_c (mid := m8) (args := [.ref a1, .ref x1]) (pc := 8) (L := [some (.ref x0), some (.ref x1), none, none, none, none]) (st := []) (σ := σ) (stp_callV (n := 2) rfl rfl rfl ⟨Nat.le_of_ble_eq_true rfl, Nat.le_of_ble_eq_true rfl⟩ rfl h6) (h7.deep (by omega)) ?_
      refine go_n 2 (f := (10, [some (.ref x0), some (.ref x1), some (.long v9), none, none, none], [.ref x0], σ)) rfl ?_
      obtain ⟨h13, hf⟩ := grd hf
      refine go_get rfl rfl rfl h13 ?_
      show Go true (d + 81) iX24_is (13, [some (.ref x0), some (.ref x1), some (.long v9), none, none, none], va_rf (rf σ x0 2) :: [], σ) _
      generalize hR14 : (rf σ x0 2) = h34 at hf ⊢
      cases h34 with
      | none =>
        cases hf
      | some a12 =>
        refine go_n 1 (f := (14, [some (.ref x0), some (.ref x1), some (.long v9), none, none, none], [.ref x1, .ref a12], σ)) rfl ?_
        obtain ⟨v20 | e22, h16, hf⟩ := bnd hf
        · try dsimp only at hf
          obtain ⟨m19, h17, h18⟩ := rO_ok 80 _ _ _ _ h16
          refine go_c (mid := m19) (args := [.ref a12, .ref x1]) (pc := 17) (L := [some (.ref x0), some (.ref x1), some (.long v9), none, none, none]) (st := []) (σ := σ) (stp_callV (n := 2) rfl rfl rfl ⟨Nat.le_of_ble_eq_true rfl, Nat.le_of_ble_eq_true rfl⟩ rfl h17) (h18.deep (by omega)) ?_
          refine go_n 2 (f := (20, [some (.ref x0), some (.ref x1), some (.long v9), none, some (.long v20), none], [.ref x0], σ)) rfl ?_
          obtain ⟨h23, hf⟩ := grd hf
          refine go_get rfl rfl rfl h23 ?_
          refine go_n 1 (f := (25, [some (.ref x0), some (.ref x1), some (.long v9), none, some (.long v20), none], [.int 60, .int (gi σ x0 0)], σ)) rfl ?_
          by_cases h24 : (gi σ x0 0) ≠ 60
          · rw [if_pos h24] at hf
            refine go_it (t := 43) (f := 28) (L1 := [some (.ref x0), some (.ref x1), some (.long v9), none, some (.long v20), none]) (st1 := []) (σ1 := σ) rfl h24 ?_
            refine go_n 1 (f := (44, [some (.ref x0), some (.ref x1), some (.long v9), none, some (.long v20), none], [.ref x0], σ)) rfl ?_
            obtain ⟨h25, hf⟩ := grd hf
            refine go_get rfl rfl rfl h25 ?_
            refine go_n 1 (f := (49, [some (.ref x0), some (.ref x1), some (.long v9), none, some (.long v20), none], [.int 62, .int (gi σ x0 0)], σ)) rfl ?_
            refine go_m (f := (79, [none, none, none, none, none, none], [.int ((if (gi σ x0 0) ≠ 62 then (if v9 ≠ v20 then 0 else 1) else (if v9 ≤ v20 then 0 else 1)) : Int32)], σ)) ?_ (fun hJ30 => ?_)
            · generalize hz29 : ((if (gi σ x0 0) ≠ 62 then (if v9 ≠ v20 then 0 else 1) else (if v9 ≤ v20 then 0 else 1)) : Int32) = z29 at hf ⊢
              have oz29 : am_ok 3 z29 = true := hz29 ▸ (okb (okb rfl rfl) (okb rfl rfl))
              try dsimp only at hf
              cases hf
              exact go_ret rfl rfl (Or.inr (Or.inl ⟨rfl, oz29⟩))
            · by_cases h26 : (gi σ x0 0) ≠ 62
              · refine go_it (t := 67) (f := 52) (L1 := [some (.ref x0), some (.ref x1), some (.long v9), none, some (.long v20), none]) (st1 := []) (σ1 := σ) rfl h26 ?_
                refine go_n 3 (f := (71, [some (.ref x0), some (.ref x1), some (.long v9), none, some (.long v20), none], [.int (lg_cmp v9 v20)], σ)) rfl ?_
                by_cases h27 : v9 ≠ v20
                · refine go_it (t := 78) (f := 74) (L1 := [some (.ref x0), some (.ref x1), some (.long v9), none, some (.long v20), none]) (st1 := []) (σ1 := σ) rfl ((lgc_ne v9 v20).mpr h27) ?_
                  refine go_n 1 (f := (79, [some (.ref x0), some (.ref x1), some (.long v9), none, some (.long v20), none], [.int 0], σ)) rfl ?_
                  refine go_e (L1 := [none, none, none, none, none, none]) rfl rfl ?_
                  simp only [if_pos h26, if_pos h27] at hJ30
                  first | exact hJ30 | (simp only [if_pos h26, if_pos h27]; exact hJ30)
                · refine go_if (t := 78) (f := 74) (L1 := [some (.ref x0), some (.ref x1), some (.long v9), none, some (.long v20), none]) (st1 := []) (σ1 := σ) rfl (fun q => h27 ((lgc_ne v9 v20).mp q)) ?_
                  refine go_n 2 (f := (79, [some (.ref x0), some (.ref x1), some (.long v9), none, some (.long v20), none], [.int 1], σ)) rfl ?_
                  refine go_e (L1 := [none, none, none, none, none, none]) rfl rfl ?_
                  simp only [if_pos h26, if_neg h27] at hJ30
                  first | exact hJ30 | (simp only [if_pos h26, if_neg h27]; exact hJ30)
              · refine go_if (t := 67) (f := 52) (L1 := [some (.ref x0), some (.ref x1), some (.long v9), none, some (.long v20), none]) (st1 := []) (σ1 := σ) rfl h26 ?_
                refine go_n 3 (f := (56, [some (.ref x0), some (.ref x1), some (.long v9), none, some (.long v20), none], [.int (lg_cmp v9 v20)], σ)) rfl ?_
                by_cases h28 : v9 ≤ v20
                · refine go_it (t := 63) (f := 59) (L1 := [some (.ref x0), some (.ref x1), some (.long v9), none, some (.long v20), none]) (st1 := []) (σ1 := σ) rfl ((lgc_le v9 v20).mpr h28) ?_
                  refine go_n 2 (f := (79, [some (.ref x0), some (.ref x1), some (.long v9), none, some (.long v20), none], [.int 0], σ)) rfl ?_
                  refine go_e (L1 := [none, none, none, none, none, none]) rfl rfl ?_
                  simp only [if_neg h26, if_pos h28] at hJ30
                  first | exact hJ30 | (simp only [if_neg h26, if_pos h28]; exact hJ30)
                · refine go_if (t := 63) (f := 59) (L1 := [some (.ref x0), some (.ref x1), some (.long v9), none, some (.long v20), none]) (st1 := []) (σ1 := σ) rfl (fun q => h28 ((lgc_le v9 v20).mp q)) ?_
                  refine go_n 2 (f := (79, [some (.ref x0), some (.ref x1), some (.long v9), none, some (.long v20), none], [.int 1], σ)) rfl ?_
                  refine go_e (L1 := [none, none, none, none, none, none]) rfl rfl ?_
                  simp only [if_neg h26, if_neg h28] at hJ30
                  first | exact hJ30 | (simp only [if_neg h26, if_neg h28]; exact hJ30)
          · rw [if_neg h24] at hf
            refine go_if (t := 43) (f := 28) (L1 := [some (.ref x0), some (.ref x1), some (.long v9), none, some (.long v20), none]) (st1 := []) (σ1 := σ) rfl h24 ?_
            refine go_n 3 (f := (32, [some (.ref x0), some (.ref x1), some (.long v9), none, some (.long v20), none], [.int (lg_cmp v9 v20)], σ)) rfl ?_
            refine go_m (f := (79, [none, none, none, none, none, none], [.int ((if v20 ≤ v9 then 0 else 1) : Int32)], σ)) ?_ (fun hJ33 => ?_)
            · generalize hz32 : ((if v20 ≤ v9 then 0 else 1) : Int32) = z32 at hf ⊢
              have oz32 : am_ok 3 z32 = true := hz32 ▸ (okb rfl rfl)
              try dsimp only at hf
              cases hf
              exact go_ret rfl rfl (Or.inr (Or.inl ⟨rfl, oz32⟩))
            · by_cases h31 : v20 ≤ v9
              · refine go_it (t := 39) (f := 35) (L1 := [some (.ref x0), some (.ref x1), some (.long v9), none, some (.long v20), none]) (st1 := []) (σ1 := σ) rfl ((lgc_ge v9 v20).mpr h31) ?_
                refine go_n 2 (f := (79, [some (.ref x0), some (.ref x1), some (.long v9), none, some (.long v20), none], [.int 0], σ)) rfl ?_
                refine go_e (L1 := [none, none, none, none, none, none]) rfl rfl ?_
                simp only [if_pos h31] at hJ33
                first | exact hJ33 | (simp only [if_pos h31]; exact hJ33)
              · refine go_if (t := 39) (f := 35) (L1 := [some (.ref x0), some (.ref x1), some (.long v9), none, some (.long v20), none]) (st1 := []) (σ1 := σ) rfl (fun q => h31 ((lgc_ge v9 v20).mp q)) ?_
                refine go_n 2 (f := (79, [some (.ref x0), some (.ref x1), some (.long v9), none, some (.long v20), none], [.int 1], σ)) rfl ?_
                refine go_e (L1 := [none, none, none, none, none, none]) rfl rfl ?_
                simp only [if_neg h31] at hJ33
                first | exact hJ33 | (simp only [if_neg h31]; exact hJ33)
        · try dsimp only at hf
          cases hf
          obtain ⟨ec, ea⟩ := e22
          obtain ⟨m19, h17, h18⟩ := rO_ok 80 _ _ _ _ h16
          exact go_ct (mid := m19) (args := [.ref a12, .ref x1]) (pc := 17) (L := [some (.ref x0), some (.ref x1), some (.long v9), none, none, none]) (st := []) (σ := σ) (stp_callV (n := 2) rfl rfl rfl ⟨Nat.le_of_ble_eq_true rfl, Nat.le_of_ble_eq_true rfl⟩ rfl h17) (h18.deep (by omega)) rfl
    · try dsimp only at hf
      cases hf
      obtain ⟨ec, ea⟩ := e11
      obtain ⟨m8, h6, h7⟩ := rO_ok 80 _ _ _ _ h5
      exact go_ct (mid := m8) (args := [.ref a1, .ref x1]) (pc := 8) (L := [some (.ref x0), some (.ref x1), none, none, none, none]) (st := []) (σ := σ) (stp_callV (n := 2) rfl rfl rfl ⟨Nat.le_of_ble_eq_true rfl, Nat.le_of_ble_eq_true rfl⟩ rfl h6) (h7.deep (by omega)) rfl
/-! OldWeather$Not.is(LOldWeather$Setting;)Z -/
def fX25_is (RI : Nat → Nat → Sg → Option (Int32 ⊕ (Nat × Nat))) (x0 : Nat) (x1 : Nat) (σ : Sg) : Option (Int32 ⊕ (Nat × Nat)) :=
  if [32].elem (kk σ x0) = true then (match (rf σ x0 0) with
  | some a1 => ((RI a1 x1 σ).bind fun q4 => match q4 with
  | .inl v9 => ((fun (z13 : Int32) => some (.inl z13)) ((if v9 ≠ 0 then 0 else 1) : Int32))
  | .inr e11 => some (.inr e11))
  | none => none) else none
set_option maxHeartbeats 1500000 in
theorem fX25_is_ok (RI : Nat → Nat → Sg → Option (Int32 ⊕ (Nat × Nat))) (d : Nat) (hRI : ∀ (x0 x1 : Nat) (σ : Sg) (r : Int32 ⊕ (Nat × Nat)), RI x0 x1 σ = some r → ∃ mid, am_dis [(31, 9473), (32, 9729), (33, 9985)] (kdT true σ x0).1 = some mid ∧ Cl true d mid [.ref x0, .ref x1] σ (am_outI (r, σ))) (x0 : Nat) (x1 : Nat) (σ : Sg) (r : (Int32 ⊕ (Nat × Nat))) (hf : fX25_is RI x0 x1 σ = some r) : Cl true (d + 1) 9729 [.ref x0, .ref x1] σ (am_outI (r, σ)) := by
  refine ⟨iX25_is, rfl, Nat.le_of_ble_eq_true rfl, Nat.le_of_ble_eq_true rfl, ?_⟩
  show Go true (d + 1) iX25_is (0, [some (.ref x0), some (.ref x1)], [], σ) (am_outI (r, σ))
  unfold fX25_is at hf
  refine go_n 1 (f := (1, [some (.ref x0), some (.ref x1)], [.ref x0], σ)) rfl ?_
  obtain ⟨h2, hf⟩ := grd hf
  refine go_get rfl rfl rfl h2 ?_
  show Go true (d + 1) iX25_is (4, [some (.ref x0), some (.ref x1)], va_rf (rf σ x0 0) :: [], σ) _
  generalize hR3 : (rf σ x0 0) = h15 at hf ⊢
  cases h15 with
  | none =>
    cases hf
  | some a1 =>
    refine go_n 1 (f := (5, [some (.ref x0), some (.ref x1)], [.ref x1, .ref a1], σ)) rfl ?_
    obtain ⟨v9 | e11, h5, hf⟩ := bnd hf
    · try dsimp only at hf
      obtain ⟨m8, h6, h7⟩ := hRI _ _ _ _ h5
      refine go_c (mid := m8) (args := [.ref a1, .ref x1]) (pc := 8) (L := [some (.ref x0), some (.ref x1)]) (st := []) (σ := σ) (stp_callV (n := 2) rfl rfl rfl ⟨Nat.le_of_ble_eq_true rfl, Nat.le_of_ble_eq_true rfl⟩ rfl h6) (h7.deep (by omega)) ?_
      refine go_m (f := (16, [none, none], [.int ((if v9 ≠ 0 then 0 else 1) : Int32)], σ)) ?_ (fun hJ14 => ?_)
      · generalize hz13 : ((if v9 ≠ 0 then 0 else 1) : Int32) = z13 at hf ⊢
        have oz13 : am_ok 3 z13 = true := hz13 ▸ (okb rfl rfl)
        try dsimp only at hf
        cases hf
        exact go_ret rfl rfl (Or.inr (Or.inl ⟨rfl, oz13⟩))
      · by_cases h12 : v9 ≠ 0
        · refine go_it (t := 15) (f := 11) (L1 := [some (.ref x0), some (.ref x1)]) (st1 := []) (σ1 := σ) rfl h12 ?_
          refine go_n 1 (f := (16, [some (.ref x0), some (.ref x1)], [.int 0], σ)) rfl ?_
          refine go_e (L1 := [none, none]) rfl rfl ?_
          simp only [if_pos h12] at hJ14
          first | exact hJ14 | (simp only [if_pos h12]; exact hJ14)
        · refine go_if (t := 15) (f := 11) (L1 := [some (.ref x0), some (.ref x1)]) (st1 := []) (σ1 := σ) rfl h12 ?_
          refine go_n 2 (f := (16, [some (.ref x0), some (.ref x1)], [.int 1], σ)) rfl ?_
          refine go_e (L1 := [none, none]) rfl rfl ?_
          simp only [if_neg h12] at hJ14
          first | exact hJ14 | (simp only [if_neg h12]; exact hJ14)
    · try dsimp only at hf
      cases hf
      obtain ⟨ec, ea⟩ := e11
      obtain ⟨m8, h6, h7⟩ := hRI _ _ _ _ h5
      exact go_ct (mid := m8) (args := [.ref a1, .ref x1]) (pc := 8) (L := [some (.ref x0), some (.ref x1)]) (st := []) (σ := σ) (stp_callV (n := 2) rfl rfl rfl ⟨Nat.le_of_ble_eq_true rfl, Nat.le_of_ble_eq_true rfl⟩ rfl h6) (h7.deep (by omega)) rfl
/-! OldWeather$Several.is(LOldWeather$Setting;)Z -/
def fX26_is_L2 (RI : Nat → Nat → Sg → Option (Int32 ⊕ (Nat × Nat))) (x0 : Nat) (x1 : Nat) (σ : Sg)  (rec2 : Int32 → Option (Int32 ⊕ (Nat × Nat))) (x2 : Int32) : Option (Int32 ⊕ (Nat × Nat)) :=
  if [33].elem (kk σ x0) = true then (match (rf σ x0 1) with
  | some a1 => if (kk σ a1) = 16 then (fJ2_size a1 σ).bind fun q5 => if q5 ≤ x2 then if [33].elem (kk σ x0) = true then if am_ok 3 (gi σ x0 0) = true then some (.inl (gi σ x0 0)) else none else none else if [33].elem (kk σ x0) = true then if (kk σ a1) = 16 then (fJ2_get a1 x2 σ).bind fun q13 => if [31, 32, 33].elem (kk σ q13) = true then ((RI q13 x1 σ).bind fun q16 => match q16 with
  | .inl v21 => if [33].elem (kk σ x0) = true then if v21 = (gi σ x0 0) then rec2 (x2 + 1) else if [33].elem (kk σ x0) = true then ((fun (z28 : Int32) => some (.inl z28)) ((if (gi σ x0 0) ≠ 0 then 0 else 1) : Int32)) else none else none
  | .inr e23 => some (.inr e23)) else none else none else none else none
  | none => none) else none
set_option maxHeartbeats 1500000 in
theorem fX26_is_L2_ok (RI : Nat → Nat → Sg → Option (Int32 ⊕ (Nat × Nat))) (d : Nat) (hRI : ∀ (x0 x1 : Nat) (σ : Sg) (r : Int32 ⊕ (Nat × Nat)), RI x0 x1 σ = some r → ∃ mid, am_dis [(31, 9473), (32, 9729), (33, 9985)] (kdT true σ x0).1 = some mid ∧ Cl true d mid [.ref x0, .ref x1] σ (am_outI (r, σ))) (x0 : Nat) (x1 : Nat) (σ : Sg)   : ∀ (n : Nat) (x2 : Int32) (r : (Int32 ⊕ (Nat × Nat))), lp (fX26_is_L2 RI x0 x1 σ ) n x2 = some r → Go true (d + 3) iX26_is (2, [some (.ref x0), some (.ref x1), some (.int x2)], [], σ) (am_outI (r, σ)) := by
  intro n
  induction n with
  | zero => intro x2 r hf; cases hf
  | succ n ih =>
    intro x2 r hf
    have hf : fX26_is_L2 RI x0 x1 σ  (lp (fX26_is_L2 RI x0 x1 σ ) n) x2 = some r := hf
    have hrec2 := ih
    generalize lp (fX26_is_L2 RI x0 x1 σ ) n = rec2 at hf hrec2
    unfold fX26_is_L2 at hf
    refine go_n 2 (f := (4, [some (.ref x0), some (.ref x1), some (.int x2)], [.ref x0, .int x2], σ)) rfl ?_
    obtain ⟨h2, hf⟩ := grd hf
    refine go_get rfl rfl rfl h2 ?_
    show Go true (d + 3) iX26_is (7, [some (.ref x0), some (.ref x1), some (.int x2)], va_rf (rf σ x0 1) :: [.int x2], σ) _
    generalize hR3 : (rf σ x0 1) = h30 at hf ⊢
    cases h30 with
    | none =>
      cases hf
    | some a1 =>
      obtain ⟨h4, hf⟩ := grd hf
      obtain ⟨q5, h6, hf⟩ := bnd hf
      refine go_c (mid := 2821) (args := [.ref a1]) (pc := 10) (L := [some (.ref x0), some (.ref x1), some (.int x2)]) (st := [.int x2]) (σ := σ) (stp_callV1 (n := 1) rfl rfl rfl ⟨Nat.le_of_ble_eq_true rfl, Nat.le_of_ble_eq_true rfl⟩ rfl h4 rfl) ((fJ2_size_ok _ _ q5 h6).deep (by omega)) ?_
      by_cases h7 : q5 ≤ x2
      · rw [if_pos h7] at hf
        refine go_it (t := 54) (f := 13) (L1 := [some (.ref x0), some (.ref x1), some (.int x2)]) (st1 := []) (σ1 := σ) rfl h7 ?_
        refine go_n 1 (f := (55, [some (.ref x0), some (.ref x1), some (.int x2)], [.ref x0], σ)) rfl ?_
        obtain ⟨h8, hf⟩ := grd hf
        refine go_get rfl rfl rfl h8 ?_
        obtain ⟨h9, hf⟩ := grd hf
        cases hf
        exact go_ret rfl rfl (Or.inr (Or.inl ⟨rfl, h9⟩))
      · rw [if_neg h7] at hf
        refine go_if (t := 54) (f := 13) (L1 := [some (.ref x0), some (.ref x1), some (.int x2)]) (st1 := []) (σ1 := σ) rfl h7 ?_
        refine go_n 1 (f := (14, [some (.ref x0), some (.ref x1), some (.int x2)], [.ref x0], σ)) rfl ?_
        obtain ⟨h11, hf⟩ := grd hf
        refine go_get rfl rfl rfl h11 ?_
        rw [show am_rf true σ x0 1 2 = .ref a1 from (show am_rf true σ x0 1 2 = va_rf (rf σ x0 1) from rfl).trans (by rw [hR3]; rfl)]
        refine go_n 1 (f := (18, [some (.ref x0), some (.ref x1), some (.int x2)], [.int x2, .ref a1], σ)) rfl ?_
        obtain ⟨h12, hf⟩ := grd hf
        obtain ⟨q13, h14, hf⟩ := bnd hf
        refine go_c (mid := 2825) (args := [.ref a1, .int x2]) (pc := 21) (L := [some (.ref x0), some (.ref x1), some (.int x2)]) (st := []) (σ := σ) (stp_callV1 (n := 2) rfl rfl rfl ⟨Nat.le_of_ble_eq_true rfl, Nat.le_of_ble_eq_true rfl⟩ rfl h12 rfl) ((fJ2_get_ok _ _ _ q13 h14).deep (by omega)) ?_
        obtain ⟨h15, hf⟩ := grd hf
        refine go_cast rfl rfl rfl h15 ?_
        refine go_n 1 (f := (25, [some (.ref x0), some (.ref x1), some (.int x2)], [.ref x1, .ref q13], σ)) rfl ?_
        obtain ⟨v21 | e23, h17, hf⟩ := bnd hf
        · try dsimp only at hf
          obtain ⟨m20, h18, h19⟩ := hRI _ _ _ _ h17
          refine go_c (mid := m20) (args := [.ref q13, .ref x1]) (pc := 28) (L := [some (.ref x0), some (.ref x1), some (.int x2)]) (st := []) (σ := σ) (stp_callV (n := 2) rfl rfl rfl ⟨Nat.le_of_ble_eq_true rfl, Nat.le_of_ble_eq_true rfl⟩ rfl h18) (h19.deep (by omega)) ?_
          refine go_n 1 (f := (29, [some (.ref x0), some (.ref x1), some (.int x2)], [.ref x0, .int v21], σ)) rfl ?_
          obtain ⟨h24, hf⟩ := grd hf
          refine go_get rfl rfl rfl h24 ?_
          by_cases h25 : v21 = (gi σ x0 0)
          · rw [if_pos h25] at hf
            refine go_it (t := 48) (f := 35) (L1 := [some (.ref x0), some (.ref x1), some (.int x2)]) (st1 := []) (σ1 := σ) rfl h25 ?_
            refine go_n 2 (f := (2, [some (.ref x0), some (.ref x1), some (.int (x2 + 1))], [], σ)) rfl ?_
            exact hrec2 _ _ hf
          · rw [if_neg h25] at hf
            refine go_if (t := 48) (f := 35) (L1 := [some (.ref x0), some (.ref x1), some (.int x2)]) (st1 := []) (σ1 := σ) rfl h25 ?_
            refine go_n 1 (f := (36, [some (.ref x0), some (.ref x1), some (.int x2)], [.ref x0], σ)) rfl ?_
            obtain ⟨h26, hf⟩ := grd hf
            refine go_get rfl rfl rfl h26 ?_
            refine go_m (f := (47, [none, none, none], [.int ((if (gi σ x0 0) ≠ 0 then 0 else 1) : Int32)], σ)) ?_ (fun hJ29 => ?_)
            · generalize hz28 : ((if (gi σ x0 0) ≠ 0 then 0 else 1) : Int32) = z28 at hf ⊢
              have oz28 : am_ok 3 z28 = true := hz28 ▸ (okb rfl rfl)
              try dsimp only at hf
              cases hf
              exact go_ret rfl rfl (Or.inr (Or.inl ⟨rfl, oz28⟩))
            · by_cases h27 : (gi σ x0 0) ≠ 0
              · refine go_it (t := 46) (f := 42) (L1 := [some (.ref x0), some (.ref x1), some (.int x2)]) (st1 := []) (σ1 := σ) rfl h27 ?_
                refine go_n 1 (f := (47, [some (.ref x0), some (.ref x1), some (.int x2)], [.int 0], σ)) rfl ?_
                refine go_e (L1 := [none, none, none]) rfl rfl ?_
                simp only [if_pos h27] at hJ29
                first | exact hJ29 | (simp only [if_pos h27]; exact hJ29)
              · refine go_if (t := 46) (f := 42) (L1 := [some (.ref x0), some (.ref x1), some (.int x2)]) (st1 := []) (σ1 := σ) rfl h27 ?_
                refine go_n 2 (f := (47, [some (.ref x0), some (.ref x1), some (.int x2)], [.int 1], σ)) rfl ?_
                refine go_e (L1 := [none, none, none]) rfl rfl ?_
                simp only [if_neg h27] at hJ29
                first | exact hJ29 | (simp only [if_neg h27]; exact hJ29)
        · try dsimp only at hf
          cases hf
          obtain ⟨ec, ea⟩ := e23
          obtain ⟨m20, h18, h19⟩ := hRI _ _ _ _ h17
          exact go_ct (mid := m20) (args := [.ref q13, .ref x1]) (pc := 28) (L := [some (.ref x0), some (.ref x1), some (.int x2)]) (st := []) (σ := σ) (stp_callV (n := 2) rfl rfl rfl ⟨Nat.le_of_ble_eq_true rfl, Nat.le_of_ble_eq_true rfl⟩ rfl h18) (h19.deep (by omega)) rfl
def fX26_is (RI : Nat → Nat → Sg → Option (Int32 ⊕ (Nat × Nat))) (x0 : Nat) (x1 : Nat) (σ : Sg) : Option (Int32 ⊕ (Nat × Nat)) :=
  lp (fX26_is_L2 RI x0 x1 σ ) N0 0
set_option maxHeartbeats 1500000 in
theorem fX26_is_ok (RI : Nat → Nat → Sg → Option (Int32 ⊕ (Nat × Nat))) (d : Nat) (hRI : ∀ (x0 x1 : Nat) (σ : Sg) (r : Int32 ⊕ (Nat × Nat)), RI x0 x1 σ = some r → ∃ mid, am_dis [(31, 9473), (32, 9729), (33, 9985)] (kdT true σ x0).1 = some mid ∧ Cl true d mid [.ref x0, .ref x1] σ (am_outI (r, σ))) (x0 : Nat) (x1 : Nat) (σ : Sg) (r : (Int32 ⊕ (Nat × Nat))) (hf : fX26_is RI x0 x1 σ = some r) : Cl true (d + 3) 9985 [.ref x0, .ref x1] σ (am_outI (r, σ)) := by
  refine ⟨iX26_is, rfl, Nat.le_of_ble_eq_true rfl, Nat.le_of_ble_eq_true rfl, ?_⟩
  show Go true (d + 3) iX26_is (0, [some (.ref x0), some (.ref x1), none], [], σ) (am_outI (r, σ))
  unfold fX26_is at hf
  refine go_n 2 (f := (2, [some (.ref x0), some (.ref x1), some (.int 0)], [], σ)) rfl ?_
  exact fX26_is_L2_ok _ _ hRI _ _ _   N0 _ _ hf
def rI : Nat → Nat → Nat → Sg → Option (Int32 ⊕ (Nat × Nat))
  | 0 => fun _ _ _ => none
  | n + 1 => fun x0 x1 σ => if kk σ x0 = 31 then fX24_is (rI n) x0 x1 σ else if kk σ x0 = 32 then fX25_is (rI n) x0 x1 σ else if kk σ x0 = 33 then fX26_is (rI n) x0 x1 σ else none
set_option maxHeartbeats 1500000 in
theorem rI_ok : ∀ (n : Nat) (x0 x1 : Nat) (σ : Sg) (r : Int32 ⊕ (Nat × Nat)), rI n x0 x1 σ = some r → ∃ mid, am_dis [(31, 9473), (32, 9729), (33, 9985)] (kdT true σ x0).1 = some mid ∧ Cl true (81 * n) mid [.ref x0, .ref x1] σ (am_outI (r, σ)) := by
  intro n
  induction n with
  | zero => intro x0 x1 σ r h; cases h
  | succ n ih =>
    intro x0 x1 σ r h
    have h : (if kk σ x0 = 31 then fX24_is (rI n) x0 x1 σ else if kk σ x0 = 32 then fX25_is (rI n) x0 x1 σ else if kk σ x0 = 33 then fX26_is (rI n) x0 x1 σ else none) = some r := h
    by_cases h31 : kk σ x0 = 31
    · rw [if_pos h31] at h
      exact ⟨9473, by show am_dis _ (kk σ x0) = _; rw [h31]; rfl, (fX24_is_ok (rI n) (81 * n) ih x0 x1 σ r h).deep (by omega)⟩
    rw [if_neg h31] at h
    by_cases h32 : kk σ x0 = 32
    · rw [if_pos h32] at h
      exact ⟨9729, by show am_dis _ (kk σ x0) = _; rw [h32]; rfl, (fX25_is_ok (rI n) (81 * n) ih x0 x1 σ r h).deep (by omega)⟩
    rw [if_neg h32] at h
    by_cases h33 : kk σ x0 = 33
    · rw [if_pos h33] at h
      exact ⟨9985, by show am_dis _ (kk σ x0) = _; rw [h33]; rfl, (fX26_is_ok (rI n) (81 * n) ih x0 x1 σ r h).deep (by omega)⟩
    rw [if_neg h33] at h
    cases h
/-! OldWeather$Clause.holds(LOldWeather$Setting;[J)Z -/
def fX17_holds_J48 (x2 : Nat) (x3 : Int64) (s0 : Int64)  (σ : Sg) : Option (Int32 × Sg) :=
  if (kk σ x2) = 2 then if inb (0 : Int32) (kn σ x2) then if (kk σ x2) = 2 then if inb (1 : Int32) (kn σ x2) then some (1, (wl (wl σ x2 0 x3) x2 1 s0)) else none else none else none else none
set_option maxHeartbeats 1500000 in
theorem fX17_holds_J48_ok (x2 : Nat) (x3 : Int64) (s0 : Int64)  (σ : Sg)  (r : (Int32 × Sg)) (hf : fX17_holds_J48 x2 x3 s0  σ = some r) : Go true 3241 iX17_holds (48, [none, none, some (.ref x2), some (.long x3), none, none, none], [.long s0], σ) (.inl (some (.int (r).1)), (r).2) := by
  unfold fX17_holds_J48 at hf
  refine go_n 4 (f := (53, [none, none, some (.ref x2), some (.long x3), none, some (.long s0), none], [.long x3, .int 0, .ref x2], σ)) rfl ?_
  obtain ⟨h39, hf⟩ := grd hf
  obtain ⟨h40, hf⟩ := grd hf
  refine go_last rfl rfl h39 h40 ?_
  refine go_n 3 (f := (58, [none, none, some (.ref x2), some (.long x3), none, some (.long s0), none], [.long s0, .int 1, .ref x2], (wl σ x2 0 x3))) rfl ?_
  obtain ⟨h41, hf⟩ := grd hf
  obtain ⟨h42, hf⟩ := grd hf
  refine go_last rfl rfl h41 h42 ?_
  refine go_n 1 (f := (60, [none, none, some (.ref x2), some (.long x3), none, some (.long s0), none], [.int 1], (wl (wl σ x2 0 x3) x2 1 s0))) rfl ?_
  cases hf
  exact go_r rfl
def fX17_holds_J20 (x0 : Nat) (x1 : Nat) (x2 : Nat)  (σ : Sg) : Option (Int32 × Sg) :=
  if [26].elem (kk σ x0) = true then (match (rf σ x0 3) with
  | some a15 => ((rO 80 a15 x1 σ).bind fun q18 => match q18 with
  | .inl v23 => if [26].elem (kk σ x0) = true then (match (rf σ x0 4) with
  | some a26 => if [26].elem (kk σ x0) = true then ((rO 80 a26 x1 σ).bind fun q31 => match q31 with
  | .inl v36 => fX17_holds_J48 x2 v23 v36  σ
  | .inr (ec, ea) => if ec = 2 then some (0, σ) else none) else none
  | none => fX17_holds_J48 x2 v23 0  σ) else none
  | .inr (ec, ea) => if ec = 2 then some (0, σ) else none)
  | none => none) else none
set_option maxHeartbeats 1500000 in
theorem fX17_holds_J20_ok (x0 : Nat) (x1 : Nat) (x2 : Nat)  (σ : Sg)  (r : (Int32 × Sg)) (hf : fX17_holds_J20 x0 x1 x2  σ = some r) : Go true 3241 iX17_holds (20, [some (.ref x0), some (.ref x1), some (.ref x2), none, none, none, none], [], σ) (.inl (some (.int (r).1)), (r).2) := by
  unfold fX17_holds_J20 at hf
  refine go_n 1 (f := (21, [some (.ref x0), some (.ref x1), some (.ref x2), none, none, none, none], [.ref x0], σ)) rfl ?_
  obtain ⟨h16, hf⟩ := grd hf
  refine go_get rfl rfl rfl h16 ?_
  show Go true 3241 iX17_holds (24, [some (.ref x0), some (.ref x1), some (.ref x2), none, none, none, none], va_rf (rf σ x0 3) :: [], σ) _
  generalize hR17 : (rf σ x0 3) = h46 at hf ⊢
  cases h46 with
  | none =>
    cases hf
  | some a15 =>
    refine go_n 1 (f := (25, [some (.ref x0), some (.ref x1), some (.ref x2), none, none, none, none], [.ref x1, .ref a15], σ)) rfl ?_
    obtain ⟨v23 | ⟨ec, ea⟩, h19, hf⟩ := bnd hf
    · try dsimp only at hf
      obtain ⟨m22, h20, h21⟩ := rO_ok 80 _ _ _ _ h19
      refine go_c (mid := m22) (args := [.ref a15, .ref x1]) (pc := 28) (L := [some (.ref x0), some (.ref x1), some (.ref x2), none, none, none, none]) (st := []) (σ := σ) (stp_callV (n := 2) rfl rfl rfl ⟨Nat.le_of_ble_eq_true rfl, Nat.le_of_ble_eq_true rfl⟩ rfl h20) (h21.deep (Nat.le_of_ble_eq_true rfl)) ?_
      refine go_n 2 (f := (30, [some (.ref x0), some (.ref x1), some (.ref x2), some (.long v23), none, none, none], [.ref x0], σ)) rfl ?_
      obtain ⟨h27, hf⟩ := grd hf
      refine go_get rfl rfl rfl h27 ?_
      show Go true 3241 iX17_holds (33, [some (.ref x0), some (.ref x1), some (.ref x2), some (.long v23), none, none, none], va_rf (rf σ x0 4) :: [], σ) _
      generalize hR28 : (rf σ x0 4) = h44 at hf ⊢
      cases h44 with
      | none =>
        refine go_n 3 (f := (48, [some (.ref x0), some (.ref x1), some (.ref x2), some (.long v23), none, none, none], [.long 0], σ)) rfl ?_
        refine go_e (L1 := [none, none, some (.ref x2), some (.long v23), none, none, none]) rfl rfl ?_
        exact fX17_holds_J48_ok _ _ _  _  _ hf
      | some a26 =>
        refine go_n 2 (f := (41, [some (.ref x0), some (.ref x1), some (.ref x2), some (.long v23), none, none, none], [.ref x0], σ)) rfl ?_
        obtain ⟨h30, hf⟩ := grd hf
        refine go_get rfl rfl rfl h30 ?_
        rw [show am_rf true σ x0 4 2 = .ref a26 from (show am_rf true σ x0 4 2 = va_rf (rf σ x0 4) from rfl).trans (by rw [hR28]; rfl)]
        refine go_n 1 (f := (45, [some (.ref x0), some (.ref x1), some (.ref x2), some (.long v23), none, none, none], [.ref x1, .ref a26], σ)) rfl ?_
        obtain ⟨v36 | ⟨ec, ea⟩, h32, hf⟩ := bnd hf
        · try dsimp only at hf
          obtain ⟨m35, h33, h34⟩ := rO_ok 80 _ _ _ _ h32
          refine go_c (mid := m35) (args := [.ref a26, .ref x1]) (pc := 48) (L := [some (.ref x0), some (.ref x1), some (.ref x2), some (.long v23), none, none, none]) (st := []) (σ := σ) (stp_callV (n := 2) rfl rfl rfl ⟨Nat.le_of_ble_eq_true rfl, Nat.le_of_ble_eq_true rfl⟩ rfl h33) (h34.deep (Nat.le_of_ble_eq_true rfl)) ?_
          refine go_e (L1 := [none, none, some (.ref x2), some (.long v23), none, none, none]) rfl rfl ?_
          exact fX17_holds_J48_ok _ _ _  _  _ hf
        · try dsimp only at hf
          obtain ⟨h43, hf⟩ := grd hf
          subst h43
          obtain ⟨m35, h33, h34⟩ := rO_ok 80 _ _ _ _ h32
          refine go_cc (f := (61, [some (.ref x0), some (.ref x1), some (.ref x2), some (.long v23), none, none, none], [.ref ea], σ)) (mid := m35) (args := [.ref a26, .ref x1]) (pc := 48) (L := [some (.ref x0), some (.ref x1), some (.ref x2), some (.long v23), none, none, none]) (st := []) (σ := σ) (stp_callV (n := 2) rfl rfl rfl ⟨Nat.le_of_ble_eq_true rfl, Nat.le_of_ble_eq_true rfl⟩ rfl h33) (h34.deep (Nat.le_of_ble_eq_true rfl)) rfl ?_
          refine go_e (L1 := [none, none, none, none, none, none, none]) rfl rfl ?_
          refine go_n 2 (f := (63, [none, none, none, some (.ref ea), none, none, none], [.int 0], σ)) rfl ?_
          cases hf
          exact go_r rfl
    · try dsimp only at hf
      obtain ⟨h45, hf⟩ := grd hf
      subst h45
      obtain ⟨m22, h20, h21⟩ := rO_ok 80 _ _ _ _ h19
      refine go_cc (f := (61, [some (.ref x0), some (.ref x1), some (.ref x2), none, none, none, none], [.ref ea], σ)) (mid := m22) (args := [.ref a15, .ref x1]) (pc := 28) (L := [some (.ref x0), some (.ref x1), some (.ref x2), none, none, none, none]) (st := []) (σ := σ) (stp_callV (n := 2) rfl rfl rfl ⟨Nat.le_of_ble_eq_true rfl, Nat.le_of_ble_eq_true rfl⟩ rfl h20) (h21.deep (Nat.le_of_ble_eq_true rfl)) rfl ?_
      refine go_e (L1 := [none, none, none, none, none, none, none]) rfl rfl ?_
      refine go_n 2 (f := (63, [none, none, none, some (.ref ea), none, none, none], [.int 0], σ)) rfl ?_
      cases hf
      exact go_r rfl
def fX17_holds (x0 : Nat) (x1 : Nat) (x2 : Nat) (σ : Sg) : Option (Int32 × Sg) :=
  if [26].elem (kk σ x0) = true then (match (rf σ x0 5) with
  | some a1 => if [26].elem (kk σ x0) = true then ((rI 40 a1 x1 σ).bind fun q6 => match q6 with
  | .inl v11 => if v11 ≠ 0 then fX17_holds_J20 x0 x1 x2  σ else some (0, σ)
  | .inr (ec, ea) => if ec = 2 then some (0, σ) else none) else none
  | none => fX17_holds_J20 x0 x1 x2  σ) else none
set_option maxHeartbeats 1500000 in
theorem fX17_holds_ok (x0 : Nat) (x1 : Nat) (x2 : Nat) (σ : Sg) (r : (Int32 × Sg)) (hf : fX17_holds x0 x1 x2 σ = some r) : Cl true 3241 7425 [.ref x0, .ref x1, .ref x2] σ (.inl (some (.int (r).1)), (r).2) := by
  refine ⟨iX17_holds, rfl, Nat.le_of_ble_eq_true rfl, Nat.le_of_ble_eq_true rfl, ?_⟩
  show Go true 3241 iX17_holds (0, [some (.ref x0), some (.ref x1), some (.ref x2), none, none, none, none], [], σ) (.inl (some (.int (r).1)), (r).2)
  unfold fX17_holds at hf
  refine go_n 1 (f := (1, [some (.ref x0), some (.ref x1), some (.ref x2), none, none, none, none], [.ref x0], σ)) rfl ?_
  obtain ⟨h2, hf⟩ := grd hf
  refine go_get rfl rfl rfl h2 ?_
  show Go true 3241 iX17_holds (4, [some (.ref x0), some (.ref x1), some (.ref x2), none, none, none, none], va_rf (rf σ x0 5) :: [], σ) _
  generalize hR3 : (rf σ x0 5) = h48 at hf ⊢
  cases h48 with
  | none =>
    refine go_n 1 (f := (20, [some (.ref x0), some (.ref x1), some (.ref x2), none, none, none, none], [], σ)) rfl ?_
    exact fX17_holds_J20_ok _ _ _  _  _ hf
  | some a1 =>
    refine go_n 2 (f := (8, [some (.ref x0), some (.ref x1), some (.ref x2), none, none, none, none], [.ref x0], σ)) rfl ?_
    obtain ⟨h5, hf⟩ := grd hf
    refine go_get rfl rfl rfl h5 ?_
    rw [show am_rf true σ x0 5 2 = .ref a1 from (show am_rf true σ x0 5 2 = va_rf (rf σ x0 5) from rfl).trans (by rw [hR3]; rfl)]
    refine go_n 1 (f := (12, [some (.ref x0), some (.ref x1), some (.ref x2), none, none, none, none], [.ref x1, .ref a1], σ)) rfl ?_
    obtain ⟨v11 | ⟨ec, ea⟩, h7, hf⟩ := bnd hf
    · try dsimp only at hf
      obtain ⟨m10, h8, h9⟩ := rI_ok 40 _ _ _ _ h7
      refine go_c (mid := m10) (args := [.ref a1, .ref x1]) (pc := 15) (L := [some (.ref x0), some (.ref x1), some (.ref x2), none, none, none, none]) (st := []) (σ := σ) (stp_callV (n := 2) rfl rfl rfl ⟨Nat.le_of_ble_eq_true rfl, Nat.le_of_ble_eq_true rfl⟩ rfl h8) (h9.deep (Nat.le_of_ble_eq_true rfl)) ?_
      by_cases h14 : v11 ≠ 0
      · rw [if_pos h14] at hf
        refine go_it (t := 20) (f := 18) (L1 := [some (.ref x0), some (.ref x1), some (.ref x2), none, none, none, none]) (st1 := []) (σ1 := σ) rfl h14 ?_
        exact fX17_holds_J20_ok _ _ _  _  _ hf
      · rw [if_neg h14] at hf
        refine go_if (t := 20) (f := 18) (L1 := [some (.ref x0), some (.ref x1), some (.ref x2), none, none, none, none]) (st1 := []) (σ1 := σ) rfl h14 ?_
        refine go_n 1 (f := (19, [some (.ref x0), some (.ref x1), some (.ref x2), none, none, none, none], [.int 0], σ)) rfl ?_
        cases hf
        exact go_r rfl
    · try dsimp only at hf
      obtain ⟨h47, hf⟩ := grd hf
      subst h47
      obtain ⟨m10, h8, h9⟩ := rI_ok 40 _ _ _ _ h7
      refine go_cc (f := (61, [some (.ref x0), some (.ref x1), some (.ref x2), none, none, none, none], [.ref ea], σ)) (mid := m10) (args := [.ref a1, .ref x1]) (pc := 15) (L := [some (.ref x0), some (.ref x1), some (.ref x2), none, none, none, none]) (st := []) (σ := σ) (stp_callV (n := 2) rfl rfl rfl ⟨Nat.le_of_ble_eq_true rfl, Nat.le_of_ble_eq_true rfl⟩ rfl h8) (h9.deep (Nat.le_of_ble_eq_true rfl)) rfl ?_
      refine go_e (L1 := [none, none, none, none, none, none, none]) rfl rfl ?_
      refine go_n 2 (f := (63, [none, none, none, some (.ref ea), none, none, none], [.int 0], σ)) rfl ?_
      cases hf
      exact go_r rfl
/-! OldWeather.last(IIIII)I -/
def fX0_last_J344 (x1 : Int32) (x2 : Int32) (x8 : Int32) (x9 : Int32) (x10 : Nat) (x11 : Int32) (rec194 : (Int32 × Int32 × Sg) → Option (Int32 × Sg)) (rec232 : (Int32 × Int32 × Sg) → Option (Int32 × Sg)) (σ : Sg) : Option (Int32 × Sg) :=
  rec232 (x8, (x11 + 1), σ)
set_option maxHeartbeats 1500000 in
theorem fX0_last_J344_ok (x1 : Int32) (x2 : Int32) (x8 : Int32) (x9 : Int32) (x10 : Nat) (x11 : Int32) (rec194 : (Int32 × Int32 × Sg) → Option (Int32 × Sg)) (rec232 : (Int32 × Int32 × Sg) → Option (Int32 × Sg)) (σ : Sg) (hrec194 : ∀ (y8 : Int32) (y9 : Int32) (τ : Sg) (r : (Int32 × Sg)), rec194 (y8, y9, τ) = some r → Go true 3242 iX0_last (194, [some (.ref 0), some (.int x1), some (.int x2), none, none, none, none, none, some (.int y8), some (.int y9), none, none, none], [], τ) (.inl (some (.int (r).1)), (r).2)) (hrec232 : ∀ (y8 : Int32) (y11 : Int32) (τ : Sg) (r : (Int32 × Sg)), rec232 (y8, y11, τ) = some r → Go true 3242 iX0_last (232, [some (.ref 0), some (.int x1), some (.int x2), none, none, none, none, none, some (.int y8), some (.int x9), some (.ref x10), some (.int y11), none], [], τ) (.inl (some (.int (r).1)), (r).2)) (r : (Int32 × Sg)) (hf : fX0_last_J344 x1 x2 x8 x9 x10 x11 rec194 rec232 σ = some r) : Go true 3242 iX0_last (344, [some (.ref 0), some (.int x1), some (.int x2), none, none, none, none, none, some (.int x8), some (.int x9), some (.ref x10), some (.int x11), none], [], σ) (.inl (some (.int (r).1)), (r).2) := by
  unfold fX0_last_J344 at hf
  refine go_n 2 (f := (232, [some (.ref 0), some (.int x1), some (.int x2), none, none, none, none, none, some (.int x8), some (.int x9), some (.ref x10), some (.int (x11 + 1)), none], [], σ)) rfl ?_
  exact hrec232 _ _ _ _ hf
def fX0_last_L232 (x1 : Int32) (x2 : Int32) (x9 : Int32) (x10 : Nat) (rec194 : (Int32 × Int32 × Sg) → Option (Int32 × Sg)) (rec232 : (Int32 × Int32 × Sg) → Option (Int32 × Sg)) (s : Int32 × Int32 × Sg) : Option (Int32 × Sg) :=
  match s with
  | (x8, x11, σ) => if (kk σ x10) = 16 then (fJ2_size x10 σ).bind fun q31 => if q31 ≤ x11 then rec194 (x8, (x9 + 1), σ) else if (kk σ x10) = 16 then (fJ2_get x10 x11 σ).bind fun q35 => if [26].elem (kk σ q35) = true then if inb ((12 * x9) + x11) 240 then if (gi σ 29 ((12 * x9) + x11).toNatClampNeg) = 0 then fX0_last_J344 x1 x2 x8 x9 x10 x11 rec194 rec232 σ else if [26].elem (kk σ q35) = true then if (gi σ q35 0) ≠ x1 then fX0_last_J344 x1 x2 x8 x9 x10 x11 rec194 rec232 σ else if [26].elem (kk σ q35) = true then if (gi σ q35 1) ≠ x2 then fX0_last_J344 x1 x2 x8 x9 x10 x11 rec194 rec232 σ else if (kk σ q35) = 26 then (fX17_holds q35 31 34 σ).bind fun q45 => if q45.1 ≠ 0 then fX0_last_J344 x1 x2 ((12 * x9) + x11) x9 x10 x11 rec194 rec232 (wl (wl q45.2 33 0 (gl q45.2 34 0)) 33 1 (gl q45.2 34 1)) else fX0_last_J344 x1 x2 x8 x9 x10 x11 rec194 rec232 q45.2 else none else none else none else none else none else none else none
set_option maxHeartbeats 1500000 in
theorem fX0_last_L232_ok (x1 : Int32) (x2 : Int32) (x9 : Int32) (x10 : Nat) (rec194 : (Int32 × Int32 × Sg) → Option (Int32 × Sg)) (hrec194 : ∀ (y8 : Int32) (y9 : Int32) (τ : Sg) (r : (Int32 × Sg)), rec194 (y8, y9, τ) = some r → Go true 3242 iX0_last (194, [some (.ref 0), some (.int x1), some (.int x2), none, none, none, none, none, some (.int y8), some (.int y9), none, none, none], [], τ) (.inl (some (.int (r).1)), (r).2)) : ∀ (n : Nat) (x8 : Int32) (x11 : Int32) (σ : Sg) (r : (Int32 × Sg)), lp (fX0_last_L232 x1 x2 x9 x10 rec194) n (x8, x11, σ) = some r → Go true 3242 iX0_last (232, [some (.ref 0), some (.int x1), some (.int x2), none, none, none, none, none, some (.int x8), some (.int x9), some (.ref x10), some (.int x11), none], [], σ) (.inl (some (.int (r).1)), (r).2) := by
  intro n
  induction n with
  | zero => intro x8 x11 σ r hf; cases hf
  | succ n ih =>
    intro x8 x11 σ r hf
    have hf : fX0_last_L232 x1 x2 x9 x10 rec194 (lp (fX0_last_L232 x1 x2 x9 x10 rec194) n) (x8, x11, σ) = some r := hf
    have hrec232 := ih
    generalize lp (fX0_last_L232 x1 x2 x9 x10 rec194) n = rec232 at hf hrec232
    unfold fX0_last_L232 at hf
    dsimp only at hf
    refine go_n 2 (f := (236, [some (.ref 0), some (.int x1), some (.int x2), none, none, none, none, none, some (.int x8), some (.int x9), some (.ref x10), some (.int x11), none], [.ref x10, .int x11], σ)) rfl ?_
    obtain ⟨h30, hf⟩ := grd hf
    obtain ⟨q31, h32, hf⟩ := bnd hf
    refine go_c (mid := 2821) (args := [.ref x10]) (pc := 239) (L := [some (.ref 0), some (.int x1), some (.int x2), none, none, none, none, none, some (.int x8), some (.int x9), some (.ref x10), some (.int x11), none]) (st := [.int x11]) (σ := σ) (stp_callV1 (n := 1) rfl rfl rfl ⟨Nat.le_of_ble_eq_true rfl, Nat.le_of_ble_eq_true rfl⟩ rfl h30 rfl) ((fJ2_size_ok _ _ q31 h32).deep (Nat.le_of_ble_eq_true rfl)) ?_
    by_cases h33 : q31 ≤ x11
    · rw [if_pos h33] at hf
      refine go_it (t := 350) (f := 242) (L1 := [some (.ref 0), some (.int x1), some (.int x2), none, none, none, none, none, some (.int x8), some (.int x9), some (.ref x10), some (.int x11), none]) (st1 := []) (σ1 := σ) rfl h33 ?_
      refine go_n 2 (f := (194, [some (.ref 0), some (.int x1), some (.int x2), none, none, none, none, none, some (.int x8), some (.int (x9 + 1)), some (.ref x10), some (.int x11), none], [], σ)) rfl ?_
      refine go_e (L1 := [some (.ref 0), some (.int x1), some (.int x2), none, none, none, none, none, some (.int x8), some (.int (x9 + 1)), none, none, none]) rfl rfl ?_
      exact hrec194 _ _ _ _ hf
    · rw [if_neg h33] at hf
      refine go_if (t := 350) (f := 242) (L1 := [some (.ref 0), some (.int x1), some (.int x2), none, none, none, none, none, some (.int x8), some (.int x9), some (.ref x10), some (.int x11), none]) (st1 := []) (σ1 := σ) rfl h33 ?_
      refine go_n 2 (f := (246, [some (.ref 0), some (.int x1), some (.int x2), none, none, none, none, none, some (.int x8), some (.int x9), some (.ref x10), some (.int x11), none], [.int x11, .ref x10], σ)) rfl ?_
      obtain ⟨h34, hf⟩ := grd hf
      obtain ⟨q35, h36, hf⟩ := bnd hf
      refine go_c (mid := 2825) (args := [.ref x10, .int x11]) (pc := 249) (L := [some (.ref 0), some (.int x1), some (.int x2), none, none, none, none, none, some (.int x8), some (.int x9), some (.ref x10), some (.int x11), none]) (st := []) (σ := σ) (stp_callV1 (n := 2) rfl rfl rfl ⟨Nat.le_of_ble_eq_true rfl, Nat.le_of_ble_eq_true rfl⟩ rfl h34 rfl) ((fJ2_get_ok _ _ _ q35 h36).deep (Nat.le_of_ble_eq_true rfl)) ?_
      obtain ⟨h37, hf⟩ := grd hf
      refine go_cast rfl rfl rfl h37 ?_
      refine go_n 9 (f := (269, [some (.ref 0), some (.int x1), some (.int x2), none, none, none, none, none, some (.int x8), some (.int x9), some (.ref x10), some (.int x11), some (.ref q35)], [.int ((12 * x9) + x11), .ref 29], σ)) rfl ?_
      obtain ⟨h38, hf⟩ := grd hf
      refine go_bald rfl rfl (Or.inr rfl) h38 ?_
      by_cases h39 : (gi σ 29 ((12 * x9) + x11).toNatClampNeg) = 0
      · rw [if_pos h39] at hf
        refine go_it (t := 344) (f := 273) (L1 := [some (.ref 0), some (.int x1), some (.int x2), none, none, none, none, none, some (.int x8), some (.int x9), some (.ref x10), some (.int x11), some (.ref q35)]) (st1 := []) (σ1 := σ) rfl h39 ?_
        refine go_e (L1 := [some (.ref 0), some (.int x1), some (.int x2), none, none, none, none, none, some (.int x8), some (.int x9), some (.ref x10), some (.int x11), none]) rfl rfl ?_
        exact fX0_last_J344_ok _ _ _ _ _ _ _ _ _ hrec194 hrec232 _ hf
      · rw [if_neg h39] at hf
        refine go_if (t := 344) (f := 273) (L1 := [some (.ref 0), some (.int x1), some (.int x2), none, none, none, none, none, some (.int x8), some (.int x9), some (.ref x10), some (.int x11), some (.ref q35)]) (st1 := []) (σ1 := σ) rfl h39 ?_
        refine go_n 1 (f := (275, [some (.ref 0), some (.int x1), some (.int x2), none, none, none, none, none, some (.int x8), some (.int x9), some (.ref x10), some (.int x11), some (.ref q35)], [.ref q35], σ)) rfl ?_
        obtain ⟨h40, hf⟩ := grd hf
        refine go_get rfl rfl rfl h40 ?_
        refine go_n 1 (f := (279, [some (.ref 0), some (.int x1), some (.int x2), none, none, none, none, none, some (.int x8), some (.int x9), some (.ref x10), some (.int x11), some (.ref q35)], [.int x1, .int (gi σ q35 0)], σ)) rfl ?_
        by_cases h41 : (gi σ q35 0) ≠ x1
        · rw [if_pos h41] at hf
          refine go_it (t := 344) (f := 282) (L1 := [some (.ref 0), some (.int x1), some (.int x2), none, none, none, none, none, some (.int x8), some (.int x9), some (.ref x10), some (.int x11), some (.ref q35)]) (st1 := []) (σ1 := σ) rfl h41 ?_
          refine go_e (L1 := [some (.ref 0), some (.int x1), some (.int x2), none, none, none, none, none, some (.int x8), some (.int x9), some (.ref x10), some (.int x11), none]) rfl rfl ?_
          exact fX0_last_J344_ok _ _ _ _ _ _ _ _ _ hrec194 hrec232 _ hf
        · rw [if_neg h41] at hf
          refine go_if (t := 344) (f := 282) (L1 := [some (.ref 0), some (.int x1), some (.int x2), none, none, none, none, none, some (.int x8), some (.int x9), some (.ref x10), some (.int x11), some (.ref q35)]) (st1 := []) (σ1 := σ) rfl h41 ?_
          refine go_n 1 (f := (284, [some (.ref 0), some (.int x1), some (.int x2), none, none, none, none, none, some (.int x8), some (.int x9), some (.ref x10), some (.int x11), some (.ref q35)], [.ref q35], σ)) rfl ?_
          obtain ⟨h42, hf⟩ := grd hf
          refine go_get rfl rfl rfl h42 ?_
          refine go_n 1 (f := (288, [some (.ref 0), some (.int x1), some (.int x2), none, none, none, none, none, some (.int x8), some (.int x9), some (.ref x10), some (.int x11), some (.ref q35)], [.int x2, .int (gi σ q35 1)], σ)) rfl ?_
          by_cases h43 : (gi σ q35 1) ≠ x2
          · rw [if_pos h43] at hf
            refine go_it (t := 344) (f := 291) (L1 := [some (.ref 0), some (.int x1), some (.int x2), none, none, none, none, none, some (.int x8), some (.int x9), some (.ref x10), some (.int x11), some (.ref q35)]) (st1 := []) (σ1 := σ) rfl h43 ?_
            refine go_e (L1 := [some (.ref 0), some (.int x1), some (.int x2), none, none, none, none, none, some (.int x8), some (.int x9), some (.ref x10), some (.int x11), none]) rfl rfl ?_
            exact fX0_last_J344_ok _ _ _ _ _ _ _ _ _ hrec194 hrec232 _ hf
          · rw [if_neg h43] at hf
            refine go_if (t := 344) (f := 291) (L1 := [some (.ref 0), some (.int x1), some (.int x2), none, none, none, none, none, some (.int x8), some (.int x9), some (.ref x10), some (.int x11), some (.ref q35)]) (st1 := []) (σ1 := σ) rfl h43 ?_
            refine go_n 5 (f := (301, [some (.ref 0), some (.int x1), some (.int x2), none, none, none, none, none, some (.int x8), some (.int x9), some (.ref x10), some (.int x11), some (.ref q35)], [.ref 34, .ref 31, .ref q35], σ)) rfl ?_
            obtain ⟨h44, hf⟩ := grd hf
            obtain ⟨q45, h46, hf⟩ := bnd hf
            refine go_c (mid := 7425) (args := [.ref q35, .ref 31, .ref 34]) (pc := 304) (L := [some (.ref 0), some (.int x1), some (.int x2), none, none, none, none, none, some (.int x8), some (.int x9), some (.ref x10), some (.int x11), some (.ref q35)]) (st := []) (σ := σ) (stp_callV1 (n := 3) rfl rfl rfl ⟨Nat.le_of_ble_eq_true rfl, Nat.le_of_ble_eq_true rfl⟩ rfl h44 rfl) ((fX17_holds_ok _ _ _ _ q45 h46).deep (Nat.le_of_ble_eq_true rfl)) ?_
            by_cases h47 : q45.1 ≠ 0
            · rw [if_pos h47] at hf
              refine go_it (t := 310) (f := 307) (L1 := [some (.ref 0), some (.int x1), some (.int x2), none, none, none, none, none, some (.int x8), some (.int x9), some (.ref x10), some (.int x11), some (.ref q35)]) (st1 := []) (σ1 := q45.2) rfl h47 ?_
              refine go_n 10 (f := (326, [some (.ref 0), some (.int x1), some (.int x2), none, none, none, none, none, some (.int x8), some (.int x9), some (.ref x10), some (.int x11), some (.ref q35)], [.ref 33], (wl q45.2 33 0 (gl q45.2 34 0)))) rfl ?_
              refine go_n 10 (f := (341, [some (.ref 0), some (.int x1), some (.int x2), none, none, none, none, none, some (.int x8), some (.int x9), some (.ref x10), some (.int x11), some (.ref q35)], [.int x11, .int (12 * x9)], (wl (wl q45.2 33 0 (gl q45.2 34 0)) 33 1 (gl q45.2 34 1)))) rfl ?_
              refine go_n 2 (f := (344, [some (.ref 0), some (.int x1), some (.int x2), none, none, none, none, none, some (.int ((12 * x9) + x11)), some (.int x9), some (.ref x10), some (.int x11), some (.ref q35)], [], (wl (wl q45.2 33 0 (gl q45.2 34 0)) 33 1 (gl q45.2 34 1)))) rfl ?_
              refine go_e (L1 := [some (.ref 0), some (.int x1), some (.int x2), none, none, none, none, none, some (.int ((12 * x9) + x11)), some (.int x9), some (.ref x10), some (.int x11), none]) rfl rfl ?_
              exact fX0_last_J344_ok _ _ _ _ _ _ _ _ _ hrec194 hrec232 _ hf
            · rw [if_neg h47] at hf
              refine go_if (t := 310) (f := 307) (L1 := [some (.ref 0), some (.int x1), some (.int x2), none, none, none, none, none, some (.int x8), some (.int x9), some (.ref x10), some (.int x11), some (.ref q35)]) (st1 := []) (σ1 := q45.2) rfl h47 ?_
              refine go_n 1 (f := (344, [some (.ref 0), some (.int x1), some (.int x2), none, none, none, none, none, some (.int x8), some (.int x9), some (.ref x10), some (.int x11), some (.ref q35)], [], q45.2)) rfl ?_
              refine go_e (L1 := [some (.ref 0), some (.int x1), some (.int x2), none, none, none, none, none, some (.int x8), some (.int x9), some (.ref x10), some (.int x11), none]) rfl rfl ?_
              exact fX0_last_J344_ok _ _ _ _ _ _ _ _ _ hrec194 hrec232 _ hf
def fX0_last_L194 (x1 : Int32) (x2 : Int32)  (rec194 : (Int32 × Int32 × Sg) → Option (Int32 × Sg)) (s : Int32 × Int32 × Sg) : Option (Int32 × Sg) :=
  match s with
  | (x8, x9, σ) => (fJ2_size 4 σ).bind fun q21 => if q21 ≤ x9 then some (x8, σ) else (fJ2_get 4 x9 σ).bind fun q24 => if [34].elem (kk σ q24) = true then if [34].elem (kk σ q24) = true then (match (rf σ q24 2) with
  | some a27 => lp (fX0_last_L232 x1 x2 x9 a27 rec194) N0 (x8, 0, σ)
  | none => none) else none else none
set_option maxHeartbeats 1500000 in
theorem fX0_last_L194_ok (x1 : Int32) (x2 : Int32)   : ∀ (n : Nat) (x8 : Int32) (x9 : Int32) (σ : Sg) (r : (Int32 × Sg)), lp (fX0_last_L194 x1 x2 ) n (x8, x9, σ) = some r → Go true 3242 iX0_last (194, [some (.ref 0), some (.int x1), some (.int x2), none, none, none, none, none, some (.int x8), some (.int x9), none, none, none], [], σ) (.inl (some (.int (r).1)), (r).2) := by
  intro n
  induction n with
  | zero => intro x8 x9 σ r hf; cases hf
  | succ n ih =>
    intro x8 x9 σ r hf
    have hf : fX0_last_L194 x1 x2  (lp (fX0_last_L194 x1 x2 ) n) (x8, x9, σ) = some r := hf
    have hrec194 := ih
    generalize lp (fX0_last_L194 x1 x2 ) n = rec194 at hf hrec194
    unfold fX0_last_L194 at hf
    dsimp only at hf
    refine go_n 4 (f := (203, [some (.ref 0), some (.int x1), some (.int x2), none, none, none, none, none, some (.int x8), some (.int x9), none, none, none], [.ref 4, .int x9], σ)) rfl ?_
    obtain ⟨q21, h22, hf⟩ := bnd hf
    refine go_c (mid := 2821) (args := [.ref 4]) (pc := 206) (L := [some (.ref 0), some (.int x1), some (.int x2), none, none, none, none, none, some (.int x8), some (.int x9), none, none, none]) (st := [.int x9]) (σ := σ) rfl ((fJ2_size_ok _ _ q21 h22).deep (Nat.le_of_ble_eq_true rfl)) ?_
    by_cases h23 : q21 ≤ x9
    · rw [if_pos h23] at hf
      refine go_it (t := 356) (f := 209) (L1 := [some (.ref 0), some (.int x1), some (.int x2), none, none, none, none, none, some (.int x8), some (.int x9), none, none, none]) (st1 := []) (σ1 := σ) rfl h23 ?_
      refine go_n 1 (f := (358, [some (.ref 0), some (.int x1), some (.int x2), none, none, none, none, none, some (.int x8), some (.int x9), none, none, none], [.int x8], σ)) rfl ?_
      cases hf
      exact go_r rfl
    · rw [if_neg h23] at hf
      refine go_if (t := 356) (f := 209) (L1 := [some (.ref 0), some (.int x1), some (.int x2), none, none, none, none, none, some (.int x8), some (.int x9), none, none, none]) (st1 := []) (σ1 := σ) rfl h23 ?_
      refine go_n 4 (f := (218, [some (.ref 0), some (.int x1), some (.int x2), none, none, none, none, none, some (.int x8), some (.int x9), none, none, none], [.int x9, .ref 4], σ)) rfl ?_
      obtain ⟨q24, h25, hf⟩ := bnd hf
      refine go_c (mid := 2825) (args := [.ref 4, .int x9]) (pc := 221) (L := [some (.ref 0), some (.int x1), some (.int x2), none, none, none, none, none, some (.int x8), some (.int x9), none, none, none]) (st := []) (σ := σ) rfl ((fJ2_get_ok _ _ _ q24 h25).deep (Nat.le_of_ble_eq_true rfl)) ?_
      obtain ⟨h26, hf⟩ := grd hf
      refine go_cast rfl rfl rfl h26 ?_
      obtain ⟨h28, hf⟩ := grd hf
      refine go_get rfl rfl rfl h28 ?_
      show Go true 3242 iX0_last (227, [some (.ref 0), some (.int x1), some (.int x2), none, none, none, none, none, some (.int x8), some (.int x9), none, none, none], va_rf (rf σ q24 2) :: [], σ) _
      generalize hR29 : (rf σ q24 2) = h48 at hf ⊢
      cases h48 with
      | none =>
        cases hf
      | some a27 =>
        refine go_n 3 (f := (232, [some (.ref 0), some (.int x1), some (.int x2), none, none, none, none, none, some (.int x8), some (.int x9), some (.ref a27), some (.int 0), none], [], σ)) rfl ?_
        exact fX0_last_L232_ok _ _ _ _ _ hrec194 N0 _ _ _ _ hf
def fX0_last_J129 (x1 : Int32) (x2 : Int32) (x6 : Nat) (x7 : Int32) (s0 : Int32)  (σ : Sg) : Option (Int32 × Sg) :=
  if [17, 18, 19, 20, 21].elem (kk σ x6) = true then if inb (((12 * x7) + (gi σ 31 1)) - 1) 144 then lp (fX0_last_L194 x1 x2 ) N0 ((-1), 0, (wl (wl (wi (wi (wi σ 31 5 s0) 31 6 (gi (wi σ 31 5 s0) x6 1)) 31 7 (gi σ 11 (((12 * x7) + (gi σ 31 1)) - 1).toNatClampNeg)) 33 0 0) 33 1 0)) else none else none
set_option maxHeartbeats 1500000 in
theorem fX0_last_J129_ok (x1 : Int32) (x2 : Int32) (x6 : Nat) (x7 : Int32) (s0 : Int32)  (σ : Sg)  (r : (Int32 × Sg)) (hf : fX0_last_J129 x1 x2 x6 x7 s0  σ = some r) : Go true 3242 iX0_last (129, [some (.ref 0), some (.int x1), some (.int x2), none, none, none, some (.ref x6), some (.int x7), none, none, none, none, none], [.int s0, .ref 31], σ) (.inl (some (.int (r).1)), (r).2) := by
  unfold fX0_last_J129 at hf
  refine go_n 4 (f := (138, [some (.ref 0), some (.int x1), some (.int x2), none, none, none, some (.ref x6), some (.int x7), none, none, none, none, none], [.ref x6, .ref 31], (wi σ 31 5 s0))) rfl ?_
  obtain ⟨h19, hf⟩ := grd hf
  refine go_get rfl rfl rfl h19 ?_
  rw [show am_rf true (wi σ 31 5 s0) x6 1 0 = .int (gi (wi σ 31 5 s0) x6 1) from by simp [am_rf, gi, gl, wi, wl, wr]]
  refine go_n 10 (f := (161, [some (.ref 0), some (.int x1), some (.int x2), none, none, none, some (.ref x6), some (.int x7), none, none, none, none, none], [.ref 0, .int (12 * x7), .ref 11, .ref 31], (wi (wi σ 31 5 s0) 31 6 (gi (wi σ 31 5 s0) x6 1)))) rfl ?_
  refine go_n 5 (f := (170, [some (.ref 0), some (.int x1), some (.int x2), none, none, none, some (.ref x6), some (.int x7), none, none, none, none, none], [.int (((12 * x7) + (gi σ 31 1)) - 1), .ref 11, .ref 31], (wi (wi σ 31 5 s0) 31 6 (gi (wi σ 31 5 s0) x6 1)))) rfl ?_
  obtain ⟨h20, hf⟩ := grd hf
  refine go_iald rfl rfl rfl h20 ?_
  refine go_n 3 (f := (177, [some (.ref 0), some (.int x1), some (.int x2), none, none, none, some (.ref x6), some (.int x7), some (.int (-1)), none, none, none, none], [], (wi (wi (wi σ 31 5 s0) 31 6 (gi (wi σ 31 5 s0) x6 1)) 31 7 (gi σ 11 (((12 * x7) + (gi σ 31 1)) - 1).toNatClampNeg)))) rfl ?_
  refine go_n 10 (f := (191, [some (.ref 0), some (.int x1), some (.int x2), none, none, none, some (.ref x6), some (.int x7), some (.int (-1)), none, none, none, none], [], (wl (wl (wi (wi (wi σ 31 5 s0) 31 6 (gi (wi σ 31 5 s0) x6 1)) 31 7 (gi σ 11 (((12 * x7) + (gi σ 31 1)) - 1).toNatClampNeg)) 33 0 0) 33 1 0))) rfl ?_
  refine go_n 2 (f := (194, [some (.ref 0), some (.int x1), some (.int x2), none, none, none, some (.ref x6), some (.int x7), some (.int (-1)), some (.int 0), none, none, none], [], (wl (wl (wi (wi (wi σ 31 5 s0) 31 6 (gi (wi σ 31 5 s0) x6 1)) 31 7 (gi σ 11 (((12 * x7) + (gi σ 31 1)) - 1).toNatClampNeg)) 33 0 0) 33 1 0))) rfl ?_
  refine go_e (L1 := [some (.ref 0), some (.int x1), some (.int x2), none, none, none, none, none, some (.int (-1)), some (.int 0), none, none, none]) rfl rfl ?_
  exact fX0_last_L194_ok _ _   N0 _ _ _ _ hf
def fX0_last (x1 : Int32) (x2 : Int32) (x3 : Int32) (x4 : Int32) (x5 : Int32) (σ : Sg) : Option (Int32 × Sg) :=
  (fX2_looks x5 σ).bind fun q1 => (fJ2_get 2 x3 q1).bind fun q3 => if [17, 18, 19, 20, 21].elem (kk q1 q3) = true then if [17, 18, 19, 20, 21].elem (kk q1 q3) = true then if inb (gi q1 q3 1) 16 then (fX0_monthOf x4 1).bind fun q8 => (fX0_yearOf x4 1).bind fun q10 => if inb (gi q1 15 (gi q1 q3 1).toNatClampNeg) 12 then if [17, 18, 19, 20, 21].elem (kk q1 q3) = true then if inb (gi (wi (wi (wi q1 31 1 q8) 31 2 q10) 31 3 (gi q1 10 (gi q1 15 (gi q1 q3 1).toNatClampNeg).toNatClampNeg)) q3 1) 16 then (am_kdo (kk q1 q3)).bind fun q16 => if q16 ≠ 4 then if inb x3 200 then fX0_last_J129 x1 x2 q3 (gi q1 15 (gi q1 q3 1).toNatClampNeg) (gi q1 18 x3.toNatClampNeg)  (wi (wi (wi (wi q1 31 1 q8) 31 2 q10) 31 3 (gi q1 10 (gi q1 15 (gi q1 q3 1).toNatClampNeg).toNatClampNeg)) 31 4 (gi q1 14 (gi (wi (wi (wi q1 31 1 q8) 31 2 q10) 31 3 (gi q1 10 (gi q1 15 (gi q1 q3 1).toNatClampNeg).toNatClampNeg)) q3 1).toNatClampNeg)) else none else fX0_last_J129 x1 x2 q3 (gi q1 15 (gi q1 q3 1).toNatClampNeg) 0  (wi (wi (wi (wi q1 31 1 q8) 31 2 q10) 31 3 (gi q1 10 (gi q1 15 (gi q1 q3 1).toNatClampNeg).toNatClampNeg)) 31 4 (gi q1 14 (gi (wi (wi (wi q1 31 1 q8) 31 2 q10) 31 3 (gi q1 10 (gi q1 15 (gi q1 q3 1).toNatClampNeg).toNatClampNeg)) q3 1).toNatClampNeg)) else none else none else none else none else none else none
set_option maxHeartbeats 1500000 in
theorem fX0_last_ok (x1 : Int32) (x2 : Int32) (x3 : Int32) (x4 : Int32) (x5 : Int32) (σ : Sg) (r : (Int32 × Sg)) (hf : fX0_last x1 x2 x3 x4 x5 σ = some r) : Cl true 3242 5172 [.ref 0, .int x1, .int x2, .int x3, .int x4, .int x5] σ (.inl (some (.int (r).1)), (r).2) := by
  refine ⟨iX0_last, rfl, Nat.le_of_ble_eq_true rfl, Nat.le_of_ble_eq_true rfl, ?_⟩
  show Go true 3242 iX0_last (0, [some (.ref 0), some (.int x1), some (.int x2), some (.int x3), some (.int x4), some (.int x5), none, none, none, none, none, none, none], [], σ) (.inl (some (.int (r).1)), (r).2)
  unfold fX0_last at hf
  refine go_n 3 (f := (6, [some (.ref 0), some (.int x1), some (.int x2), some (.int x3), some (.int x4), some (.int x5), none, none, none, none, none, none, none], [.int x5, .ref 28], σ)) rfl ?_
  obtain ⟨q1, h2, hf⟩ := bnd hf
  refine go_c (mid := 8193) (args := [.ref 28, .int x5]) (pc := 9) (L := [some (.ref 0), some (.int x1), some (.int x2), some (.int x3), some (.int x4), some (.int x5), none, none, none, none, none, none, none]) (st := []) (σ := σ) rfl ((fX2_looks_ok _ _ q1 h2).deep (Nat.le_of_ble_eq_true rfl)) ?_
  refine go_n 4 (f := (17, [some (.ref 0), some (.int x1), some (.int x2), some (.int x3), some (.int x4), some (.int x5), none, none, none, none, none, none, none], [.int x3, .ref 2], q1)) rfl ?_
  obtain ⟨q3, h4, hf⟩ := bnd hf
  refine go_c (mid := 2825) (args := [.ref 2, .int x3]) (pc := 20) (L := [some (.ref 0), some (.int x1), some (.int x2), some (.int x3), some (.int x4), some (.int x5), none, none, none, none, none, none, none]) (st := []) (σ := q1) rfl ((fJ2_get_ok _ _ _ q3 h4).deep (Nat.le_of_ble_eq_true rfl)) ?_
  obtain ⟨h5, hf⟩ := grd hf
  refine go_cast rfl rfl rfl h5 ?_
  refine go_n 5 (f := (34, [some (.ref 0), some (.int x1), some (.int x2), some (.int x3), some (.int x4), some (.int x5), some (.ref q3), none, none, none, none, none, none], [.ref q3, .ref 15], q1)) rfl ?_
  obtain ⟨h6, hf⟩ := grd hf
  refine go_get rfl rfl rfl h6 ?_
  obtain ⟨h7, hf⟩ := grd hf
  refine go_iald rfl rfl rfl h7 ?_
  refine go_n 5 (f := (47, [some (.ref 0), some (.int x1), some (.int x2), some (.int x3), some (.int x4), some (.int x5), some (.ref q3), some (.int (gi q1 15 (gi q1 q3 1).toNatClampNeg)), none, none, none, none, none], [.int 1, .int x4, .ref 31], q1)) rfl ?_
  obtain ⟨q8, h9, hf⟩ := bnd hf
  refine go_c (mid := 5131) (args := [.int x4, .int 1]) (pc := 50) (L := [some (.ref 0), some (.int x1), some (.int x2), some (.int x3), some (.int x4), some (.int x5), some (.ref q3), some (.int (gi q1 15 (gi q1 q3 1).toNatClampNeg)), none, none, none, none, none]) (st := [.ref 31]) (σ := q1) rfl ((fX0_monthOf_ok _ _ _ q8 h9).deep (Nat.le_of_ble_eq_true rfl)) ?_
  refine go_n 5 (f := (60, [some (.ref 0), some (.int x1), some (.int x2), some (.int x3), some (.int x4), some (.int x5), some (.ref q3), some (.int (gi q1 15 (gi q1 q3 1).toNatClampNeg)), none, none, none, none, none], [.int 1, .int x4, .ref 31], (wi q1 31 1 q8))) rfl ?_
  obtain ⟨q10, h11, hf⟩ := bnd hf
  refine go_c (mid := 5130) (args := [.int x4, .int 1]) (pc := 63) (L := [some (.ref 0), some (.int x1), some (.int x2), some (.int x3), some (.int x4), some (.int x5), some (.ref q3), some (.int (gi q1 15 (gi q1 q3 1).toNatClampNeg)), none, none, none, none, none]) (st := [.ref 31]) (σ := (wi q1 31 1 q8)) rfl ((fX0_yearOf_ok _ _ _ q10 h11).deep (Nat.le_of_ble_eq_true rfl)) ?_
  refine go_n 7 (f := (79, [some (.ref 0), some (.int x1), some (.int x2), some (.int x3), some (.int x4), some (.int x5), some (.ref q3), some (.int (gi q1 15 (gi q1 q3 1).toNatClampNeg)), none, none, none, none, none], [.int (gi q1 15 (gi q1 q3 1).toNatClampNeg), .ref 10, .ref 31], (wi (wi q1 31 1 q8) 31 2 q10))) rfl ?_
  obtain ⟨h12, hf⟩ := grd hf
  refine go_iald rfl rfl rfl h12 ?_
  refine go_n 7 (f := (96, [some (.ref 0), some (.int x1), some (.int x2), some (.int x3), some (.int x4), some (.int x5), some (.ref q3), some (.int (gi q1 15 (gi q1 q3 1).toNatClampNeg)), none, none, none, none, none], [.ref q3, .ref 14, .ref 31], (wi (wi (wi q1 31 1 q8) 31 2 q10) 31 3 (gi q1 10 (gi q1 15 (gi q1 q3 1).toNatClampNeg).toNatClampNeg)))) rfl ?_
  obtain ⟨h13, hf⟩ := grd hf
  refine go_get rfl rfl rfl h13 ?_
  rw [show am_rf true (wi (wi (wi q1 31 1 q8) 31 2 q10) 31 3 (gi q1 10 (gi q1 15 (gi q1 q3 1).toNatClampNeg).toNatClampNeg)) q3 1 0 = .int (gi (wi (wi (wi q1 31 1 q8) 31 2 q10) 31 3 (gi q1 10 (gi q1 15 (gi q1 q3 1).toNatClampNeg).toNatClampNeg)) q3 1) from by simp [am_rf, gi, gl, wi, wl, wr]]
  obtain ⟨h14, hf⟩ := grd hf
  refine go_iald rfl rfl rfl h14 ?_
  refine go_n 4 (f := (109, [some (.ref 0), some (.int x1), some (.int x2), some (.int x3), some (.int x4), some (.int x5), some (.ref q3), some (.int (gi q1 15 (gi q1 q3 1).toNatClampNeg)), none, none, none, none, none], [.ref q3, .ref 31], (wi (wi (wi (wi q1 31 1 q8) 31 2 q10) 31 3 (gi q1 10 (gi q1 15 (gi q1 q3 1).toNatClampNeg).toNatClampNeg)) 31 4 (gi q1 14 (gi (wi (wi (wi q1 31 1 q8) 31 2 q10) 31 3 (gi q1 10 (gi q1 15 (gi q1 q3 1).toNatClampNeg).toNatClampNeg)) q3 1).toNatClampNeg)))) rfl ?_
  obtain ⟨q16, h15, hf⟩ := bnd hf
  refine go_b (mid := 20007) (args := [.ref q3]) (pc := 112) (L := [some (.ref 0), some (.int x1), some (.int x2), some (.int x3), some (.int x4), some (.int x5), some (.ref q3), some (.int (gi q1 15 (gi q1 q3 1).toNatClampNeg)), none, none, none, none, none]) (st := [.ref 31]) (σ := (wi (wi (wi (wi q1 31 1 q8) 31 2 q10) 31 3 (gi q1 10 (gi q1 15 (gi q1 q3 1).toNatClampNeg).toNatClampNeg)) 31 4 (gi q1 14 (gi (wi (wi (wi q1 31 1 q8) 31 2 q10) 31 3 (gi q1 10 (gi q1 15 (gi q1 q3 1).toNatClampNeg).toNatClampNeg)) q3 1).toNatClampNeg))) rfl (by decide) (am_bi_kdo h15) ?_
  refine go_n 1 (f := (113, [some (.ref 0), some (.int x1), some (.int x2), some (.int x3), some (.int x4), some (.int x5), some (.ref q3), some (.int (gi q1 15 (gi q1 q3 1).toNatClampNeg)), none, none, none, none, none], [.int 4, .int q16, .ref 31], (wi (wi (wi (wi q1 31 1 q8) 31 2 q10) 31 3 (gi q1 10 (gi q1 15 (gi q1 q3 1).toNatClampNeg).toNatClampNeg)) 31 4 (gi q1 14 (gi (wi (wi (wi q1 31 1 q8) 31 2 q10) 31 3 (gi q1 10 (gi q1 15 (gi q1 q3 1).toNatClampNeg).toNatClampNeg)) q3 1).toNatClampNeg)))) rfl ?_
  by_cases h17 : q16 ≠ 4
  · rw [if_pos h17] at hf
    refine go_it (t := 120) (f := 116) (L1 := [some (.ref 0), some (.int x1), some (.int x2), some (.int x3), some (.int x4), some (.int x5), some (.ref q3), some (.int (gi q1 15 (gi q1 q3 1).toNatClampNeg)), none, none, none, none, none]) (st1 := [.ref 31]) (σ1 := (wi (wi (wi (wi q1 31 1 q8) 31 2 q10) 31 3 (gi q1 10 (gi q1 15 (gi q1 q3 1).toNatClampNeg).toNatClampNeg)) 31 4 (gi q1 14 (gi (wi (wi (wi q1 31 1 q8) 31 2 q10) 31 3 (gi q1 10 (gi q1 15 (gi q1 q3 1).toNatClampNeg).toNatClampNeg)) q3 1).toNatClampNeg))) rfl h17 ?_
    refine go_n 4 (f := (128, [some (.ref 0), some (.int x1), some (.int x2), some (.int x3), some (.int x4), some (.int x5), some (.ref q3), some (.int (gi q1 15 (gi q1 q3 1).toNatClampNeg)), none, none, none, none, none], [.int x3, .ref 18, .ref 31], (wi (wi (wi (wi q1 31 1 q8) 31 2 q10) 31 3 (gi q1 10 (gi q1 15 (gi q1 q3 1).toNatClampNeg).toNatClampNeg)) 31 4 (gi q1 14 (gi (wi (wi (wi q1 31 1 q8) 31 2 q10) 31 3 (gi q1 10 (gi q1 15 (gi q1 q3 1).toNatClampNeg).toNatClampNeg)) q3 1).toNatClampNeg)))) rfl ?_
    obtain ⟨h18, hf⟩ := grd hf
    refine go_iald rfl rfl rfl h18 ?_
    refine go_e (L1 := [some (.ref 0), some (.int x1), some (.int x2), none, none, none, some (.ref q3), some (.int (gi q1 15 (gi q1 q3 1).toNatClampNeg)), none, none, none, none, none]) rfl rfl ?_
    exact fX0_last_J129_ok _ _ _ _ _  _  _ hf
  · rw [if_neg h17] at hf
    refine go_if (t := 120) (f := 116) (L1 := [some (.ref 0), some (.int x1), some (.int x2), some (.int x3), some (.int x4), some (.int x5), some (.ref q3), some (.int (gi q1 15 (gi q1 q3 1).toNatClampNeg)), none, none, none, none, none]) (st1 := [.ref 31]) (σ1 := (wi (wi (wi (wi q1 31 1 q8) 31 2 q10) 31 3 (gi q1 10 (gi q1 15 (gi q1 q3 1).toNatClampNeg).toNatClampNeg)) 31 4 (gi q1 14 (gi (wi (wi (wi q1 31 1 q8) 31 2 q10) 31 3 (gi q1 10 (gi q1 15 (gi q1 q3 1).toNatClampNeg).toNatClampNeg)) q3 1).toNatClampNeg))) rfl h17 ?_
    refine go_n 2 (f := (129, [some (.ref 0), some (.int x1), some (.int x2), some (.int x3), some (.int x4), some (.int x5), some (.ref q3), some (.int (gi q1 15 (gi q1 q3 1).toNatClampNeg)), none, none, none, none, none], [.int 0, .ref 31], (wi (wi (wi (wi q1 31 1 q8) 31 2 q10) 31 3 (gi q1 10 (gi q1 15 (gi q1 q3 1).toNatClampNeg).toNatClampNeg)) 31 4 (gi q1 14 (gi (wi (wi (wi q1 31 1 q8) 31 2 q10) 31 3 (gi q1 10 (gi q1 15 (gi q1 q3 1).toNatClampNeg).toNatClampNeg)) q3 1).toNatClampNeg)))) rfl ?_
    refine go_e (L1 := [some (.ref 0), some (.int x1), some (.int x2), none, none, none, some (.ref q3), some (.int (gi q1 15 (gi q1 q3 1).toNatClampNeg)), none, none, none, none, none]) rfl rfl ?_
    exact fX0_last_J129_ok _ _ _ _ _  _  _ hf
/-! OldWeather.weightOf(III)J -/
def fX0_weightOf (x1 : Int32) (x2 : Int32) (x3 : Int32) (σ : Sg) : Option (Int64 × Sg) :=
  (fJ2_get 2 x1 σ).bind fun q1 => if [17, 18, 19, 20, 21].elem (kk σ q1) = true then (am_kdo (kk σ q1)).bind fun q5 => (fX0_last 6 q5 x1 x2 x3 σ).bind fun q6 => if q6.1 ≠ (-1) then (fJ5_max_2 0 (gl q6.2 33 0)).bind fun q9 => some (q9, q6.2) else some (1, q6.2) else none
set_option maxHeartbeats 1500000 in
theorem fX0_weightOf_ok (x1 : Int32) (x2 : Int32) (x3 : Int32) (σ : Sg) (r : (Int64 × Sg)) (hf : fX0_weightOf x1 x2 x3 σ = some r) : Cl true 3243 5178 [.ref 0, .int x1, .int x2, .int x3] σ (.inl (some (.long (r).1)), (r).2) := by
  refine ⟨iX0_weightOf, rfl, Nat.le_of_ble_eq_true rfl, Nat.le_of_ble_eq_true rfl, ?_⟩
  show Go true 3243 iX0_weightOf (0, [some (.ref 0), some (.int x1), some (.int x2), some (.int x3), none], [], σ) (.inl (some (.long (r).1)), (r).2)
  unfold fX0_weightOf at hf
  refine go_n 6 (f := (11, [some (.ref 0), some (.int x1), some (.int x2), some (.int x3), none], [.int x1, .ref 2, .int 6, .ref 0], σ)) rfl ?_
  obtain ⟨q1, h2, hf⟩ := bnd hf
  refine go_c (mid := 2825) (args := [.ref 2, .int x1]) (pc := 14) (L := [some (.ref 0), some (.int x1), some (.int x2), some (.int x3), none]) (st := [.int 6, .ref 0]) (σ := σ) rfl ((fJ2_get_ok _ _ _ q1 h2).deep (Nat.le_of_ble_eq_true rfl)) ?_
  obtain ⟨h3, hf⟩ := grd hf
  refine go_cast rfl rfl rfl h3 ?_
  obtain ⟨q5, h4, hf⟩ := bnd hf
  refine go_b (mid := 20007) (args := [.ref q1]) (pc := 20) (L := [some (.ref 0), some (.int x1), some (.int x2), some (.int x3), none]) (st := [.int 6, .ref 0]) (σ := σ) rfl (by decide) (am_bi_kdo h4) ?_
  refine go_n 3 (f := (23, [some (.ref 0), some (.int x1), some (.int x2), some (.int x3), none], [.int x3, .int x2, .int x1, .int q5, .int 6, .ref 0], σ)) rfl ?_
  obtain ⟨q6, h7, hf⟩ := bnd hf
  refine go_c (mid := 5172) (args := [.ref 0, .int 6, .int q5, .int x1, .int x2, .int x3]) (pc := 26) (L := [some (.ref 0), some (.int x1), some (.int x2), some (.int x3), none]) (st := []) (σ := σ) rfl ((fX0_last_ok _ _ _ _ _ _ q6 h7).deep (Nat.le_of_ble_eq_true rfl)) ?_
  refine go_n 3 (f := (31, [some (.ref 0), some (.int x1), some (.int x2), some (.int x3), some (.int q6.1)], [.int (-1), .int q6.1], q6.2)) rfl ?_
  by_cases h8 : q6.1 ≠ (-1)
  · rw [if_pos h8] at hf
    refine go_it (t := 38) (f := 34) (L1 := [some (.ref 0), some (.int x1), some (.int x2), some (.int x3), some (.int q6.1)]) (st1 := []) (σ1 := q6.2) rfl h8 ?_
    refine go_n 5 (f := (45, [some (.ref 0), some (.int x1), some (.int x2), some (.int x3), some (.int q6.1)], [.long (gl q6.2 33 0), .long 0], q6.2)) rfl ?_
    obtain ⟨q9, h10, hf⟩ := bnd hf
    refine go_c (mid := 3588) (args := [.long 0, .long (gl q6.2 33 0)]) (pc := 48) (L := [some (.ref 0), some (.int x1), some (.int x2), some (.int x3), some (.int q6.1)]) (st := []) (σ := q6.2) rfl ((fJ5_max_2_ok _ _ _ q9 h10).deep (Nat.le_of_ble_eq_true rfl)) ?_
    refine go_e (L1 := [none, none, none, none, none]) rfl rfl ?_
    cases hf
    exact go_r rfl
  · rw [if_neg h8] at hf
    refine go_if (t := 38) (f := 34) (L1 := [some (.ref 0), some (.int x1), some (.int x2), some (.int x3), some (.int q6.1)]) (st1 := []) (σ1 := q6.2) rfl h8 ?_
    refine go_n 2 (f := (48, [some (.ref 0), some (.int x1), some (.int x2), some (.int x3), some (.int q6.1)], [.long 1], q6.2)) rfl ?_
    refine go_e (L1 := [none, none, none, none, none]) rfl rfl ?_
    cases hf
    exact go_r rfl
/-! OldWeather.rightOf(III)J -/
def fX0_rightOf (x1 : Int32) (x2 : Int32) (x3 : Int32) (σ : Sg) : Option (Int64 × Sg) :=
  if inb x1 200 then (fX0_last 3 0 x1 x2 x3 σ).bind fun q2 => (fX0_last 4 0 x1 x2 x3 q2.2).bind fun q4 => some ((((gi σ 18 x1.toNatClampNeg).toInt64 - (gl q2.2 33 0)) - (gl q4.2 33 0)), q4.2) else none
set_option maxHeartbeats 1500000 in
theorem fX0_rightOf_ok (x1 : Int32) (x2 : Int32) (x3 : Int32) (σ : Sg) (r : (Int64 × Sg)) (hf : fX0_rightOf x1 x2 x3 σ = some r) : Cl true 3243 5171 [.ref 0, .int x1, .int x2, .int x3] σ (.inl (some (.long (r).1)), (r).2) := by
  refine ⟨iX0_rightOf, rfl, Nat.le_of_ble_eq_true rfl, Nat.le_of_ble_eq_true rfl, ?_⟩
  show Go true 3243 iX0_rightOf (0, [some (.ref 0), some (.int x1), some (.int x2), some (.int x3), none, none], [], σ) (.inl (some (.long (r).1)), (r).2)
  unfold fX0_rightOf at hf
  refine go_n 4 (f := (8, [some (.ref 0), some (.int x1), some (.int x2), some (.int x3), none, none], [.int x1, .ref 18], σ)) rfl ?_
  obtain ⟨h1, hf⟩ := grd hf
  refine go_iald rfl rfl rfl h1 ?_
  refine go_n 8 (f := (18, [some (.ref 0), some (.int x1), some (.int x2), some (.int x3), some (.long (gi σ 18 x1.toNatClampNeg).toInt64), none], [.int x3, .int x2, .int x1, .int 0, .int 3, .ref 0], σ)) rfl ?_
  obtain ⟨q2, h3, hf⟩ := bnd hf
  refine go_c (mid := 5172) (args := [.ref 0, .int 3, .int 0, .int x1, .int x2, .int x3]) (pc := 21) (L := [some (.ref 0), some (.int x1), some (.int x2), some (.int x3), some (.long (gi σ 18 x1.toNatClampNeg).toInt64), none]) (st := []) (σ := σ) rfl ((fX0_last_ok _ _ _ _ _ _ q2 h3).deep (Nat.le_of_ble_eq_true rfl)) ?_
  refine go_n 10 (f := (35, [some (.ref 0), some (.int x1), some (.int x2), some (.int x3), some (.long ((gi σ 18 x1.toNatClampNeg).toInt64 - (gl q2.2 33 0))), none], [.int 4, .ref 0], q2.2)) rfl ?_
  refine go_n 4 (f := (39, [some (.ref 0), some (.int x1), some (.int x2), some (.int x3), some (.long ((gi σ 18 x1.toNatClampNeg).toInt64 - (gl q2.2 33 0))), none], [.int x3, .int x2, .int x1, .int 0, .int 4, .ref 0], q2.2)) rfl ?_
  obtain ⟨q4, h5, hf⟩ := bnd hf
  refine go_c (mid := 5172) (args := [.ref 0, .int 4, .int 0, .int x1, .int x2, .int x3]) (pc := 42) (L := [some (.ref 0), some (.int x1), some (.int x2), some (.int x3), some (.long ((gi σ 18 x1.toNatClampNeg).toInt64 - (gl q2.2 33 0))), none]) (st := []) (σ := q2.2) rfl ((fX0_last_ok _ _ _ _ _ _ q4 h5).deep (Nat.le_of_ble_eq_true rfl)) ?_
  refine go_n 7 (f := (52, [some (.ref 0), some (.int x1), some (.int x2), some (.int x3), some (.long ((gi σ 18 x1.toNatClampNeg).toInt64 - (gl q2.2 33 0))), none], [.long (((gi σ 18 x1.toNatClampNeg).toInt64 - (gl q2.2 33 0)) - (gl q4.2 33 0))], q4.2)) rfl ?_
  cases hf
  exact go_r rfl
/-! OldWeather$Pairs.looks(I)V -/
def fX5_looks_J277 (x1 : Int32) (x2 : Int32) (rec75 : (Int32 × Sg) → Option Sg) (σ : Sg) : Option Sg :=
  rec75 ((x2 + 1), σ)
set_option maxHeartbeats 1500000 in
theorem fX5_looks_J277_ok (x1 : Int32) (x2 : Int32) (rec75 : (Int32 × Sg) → Option Sg) (σ : Sg) (hrec75 : ∀ (y2 : Int32) (τ : Sg) (r : Sg), rec75 (y2, τ) = some r → Go true 3244 iX5_looks (75, [some (.ref 35), some (.int x1), some (.int y2), none], [], τ) (.inl none, r)) (r : Sg) (hf : fX5_looks_J277 x1 x2 rec75 σ = some r) : Go true 3244 iX5_looks (277, [some (.ref 35), some (.int x1), some (.int x2), none], [], σ) (.inl none, r) := by
  unfold fX5_looks_J277 at hf
  refine go_n 2 (f := (75, [some (.ref 35), some (.int x1), some (.int (x2 + 1)), none], [], σ)) rfl ?_
  exact hrec75 _ _ _ hf
def fX5_looks_L75 (x1 : Int32)  (rec75 : (Int32 × Sg) → Option Sg) (s : Int32 × Sg) : Option Sg :=
  match s with
  | (x2, σ) => (fJ2_size 2 σ).bind fun q5 => if q5 ≤ x2 then some σ else (fJ2_get 2 x2 σ).bind fun q8 => if [17, 18, 19, 20, 21].elem (kk σ q8) = true then (am_kdo (kk σ q8)).bind fun q12 => if q12 ≠ 0 then fX5_looks_J277 x1 x2 rec75 σ else (fX0_isSure x2 x1 σ).bind fun q14 => if q14 = 0 then fX5_looks_J277 x1 x2 rec75 σ else if inb x2 200 then (fX0_in (gi σ 18 x2.toNatClampNeg) 0 19).bind fun q18 => if q18 ≠ 0 then (fX5_beside x2 x1 σ).bind fun q21 => if q21 ≠ (-1) then (fJ2_get 2 x2 σ).bind fun q24 => if [17, 18, 19, 20, 21].elem (kk σ q24) = true then if [17, 18, 19, 20, 21].elem (kk σ q24) = true then if inb (gi σ q24 1) 16 then if inb x2 200 then if inb (gi σ 35 5) 200 then if inb x2 200 then (fX0_rightOf q21 (gi σ 25 x2.toNatClampNeg) x1 (wi σ 37 (gi σ 35 5).toNatClampNeg ((20 * (gi σ 14 (gi σ q24 1).toNatClampNeg)) + (gi σ 18 x2.toNatClampNeg)))).bind fun q32 => if inb (gi σ 35 5) 200 then if inb (gi q32.2 35 5) 200 then if inb (gi q32.2 37 (gi q32.2 35 5).toNatClampNeg) 160 then if inb (gi q32.2 37 (gi q32.2 35 5).toNatClampNeg) 160 then fX5_looks_J277 x1 x2 rec75 (wi (wi (wl q32.2 38 (gi σ 35 5).toNatClampNeg q32.1) 36 (gi q32.2 37 (gi q32.2 35 5).toNatClampNeg).toNatClampNeg ((gi q32.2 36 (gi q32.2 37 (gi q32.2 35 5).toNatClampNeg).toNatClampNeg) + 1)) 35 5 ((gi q32.2 35 5) + 1)) else none else none else none else none else none else none else none else none else none else none else fX5_looks_J277 x1 x2 rec75 σ else fX5_looks_J277 x1 x2 rec75 σ else none else none
set_option maxHeartbeats 1500000 in
theorem fX5_looks_L75_ok (x1 : Int32)   : ∀ (n : Nat) (x2 : Int32) (σ : Sg) (r : Sg), lp (fX5_looks_L75 x1 ) n (x2, σ) = some r → Go true 3244 iX5_looks (75, [some (.ref 35), some (.int x1), some (.int x2), none], [], σ) (.inl none, r) := by
  intro n
  induction n with
  | zero => intro x2 σ r hf; cases hf
  | succ n ih =>
    intro x2 σ r hf
    have hf : fX5_looks_L75 x1  (lp (fX5_looks_L75 x1 ) n) (x2, σ) = some r := hf
    have hrec75 := ih
    generalize lp (fX5_looks_L75 x1 ) n = rec75 at hf hrec75
    unfold fX5_looks_L75 at hf
    dsimp only at hf
    refine go_n 5 (f := (86, [some (.ref 35), some (.int x1), some (.int x2), none], [.ref 2, .int x2], σ)) rfl ?_
    obtain ⟨q5, h6, hf⟩ := bnd hf
    refine go_c (mid := 2821) (args := [.ref 2]) (pc := 89) (L := [some (.ref 35), some (.int x1), some (.int x2), none]) (st := [.int x2]) (σ := σ) rfl ((fJ2_size_ok _ _ q5 h6).deep (Nat.le_of_ble_eq_true rfl)) ?_
    by_cases h7 : q5 ≤ x2
    · rw [if_pos h7] at hf
      refine go_it (t := 283) (f := 92) (L1 := [some (.ref 35), some (.int x1), some (.int x2), none]) (st1 := []) (σ1 := σ) rfl h7 ?_
      cases hf
      exact go_r rfl
    · rw [if_neg h7] at hf
      refine go_if (t := 283) (f := 92) (L1 := [some (.ref 35), some (.int x1), some (.int x2), none]) (st1 := []) (σ1 := σ) rfl h7 ?_
      refine go_n 5 (f := (103, [some (.ref 35), some (.int x1), some (.int x2), none], [.int x2, .ref 2], σ)) rfl ?_
      obtain ⟨q8, h9, hf⟩ := bnd hf
      refine go_c (mid := 2825) (args := [.ref 2, .int x2]) (pc := 106) (L := [some (.ref 35), some (.int x1), some (.int x2), none]) (st := []) (σ := σ) rfl ((fJ2_get_ok _ _ _ q8 h9).deep (Nat.le_of_ble_eq_true rfl)) ?_
      obtain ⟨h10, hf⟩ := grd hf
      refine go_cast rfl rfl rfl h10 ?_
      obtain ⟨q12, h11, hf⟩ := bnd hf
      refine go_b (mid := 20007) (args := [.ref q8]) (pc := 112) (L := [some (.ref 35), some (.int x1), some (.int x2), none]) (st := []) (σ := σ) rfl (by decide) (am_bi_kdo h11) ?_
      by_cases h13 : q12 ≠ 0
      · rw [if_pos h13] at hf
        refine go_it (t := 277) (f := 115) (L1 := [some (.ref 35), some (.int x1), some (.int x2), none]) (st1 := []) (σ1 := σ) rfl h13 ?_
        exact fX5_looks_J277_ok _ _ _ _ hrec75 _ hf
      · rw [if_neg h13] at hf
        refine go_if (t := 277) (f := 115) (L1 := [some (.ref 35), some (.int x1), some (.int x2), none]) (st1 := []) (σ1 := σ) rfl h13 ?_
        refine go_n 4 (f := (121, [some (.ref 35), some (.int x1), some (.int x2), none], [.int x1, .int x2, .ref 0], σ)) rfl ?_
        obtain ⟨q14, h15, hf⟩ := bnd hf
        refine go_c (mid := 5169) (args := [.ref 0, .int x2, .int x1]) (pc := 124) (L := [some (.ref 35), some (.int x1), some (.int x2), none]) (st := []) (σ := σ) rfl ((fX0_isSure_ok _ _ _ q14 h15).deep (Nat.le_of_ble_eq_true rfl)) ?_
        by_cases h16 : q14 = 0
        · rw [if_pos h16] at hf
          refine go_it (t := 277) (f := 127) (L1 := [some (.ref 35), some (.int x1), some (.int x2), none]) (st1 := []) (σ1 := σ) rfl h16 ?_
          exact fX5_looks_J277_ok _ _ _ _ hrec75 _ hf
        · rw [if_neg h16] at hf
          refine go_if (t := 277) (f := 127) (L1 := [some (.ref 35), some (.int x1), some (.int x2), none]) (st1 := []) (σ1 := σ) rfl h16 ?_
          refine go_n 5 (f := (138, [some (.ref 35), some (.int x1), some (.int x2), none], [.int x2, .ref 18], σ)) rfl ?_
          obtain ⟨h17, hf⟩ := grd hf
          refine go_iald rfl rfl rfl h17 ?_
          refine go_n 2 (f := (142, [some (.ref 35), some (.int x1), some (.int x2), none], [.int 19, .int 0, .int (gi σ 18 x2.toNatClampNeg)], σ)) rfl ?_
          obtain ⟨q18, h19, hf⟩ := bnd hf
          refine go_c (mid := 5122) (args := [.int (gi σ 18 x2.toNatClampNeg), .int 0, .int 19]) (pc := 145) (L := [some (.ref 35), some (.int x1), some (.int x2), none]) (st := []) (σ := σ) rfl ((fX0_in_ok _ _ _ _ q18 h19).deep (Nat.le_of_ble_eq_true rfl)) ?_
          by_cases h20 : q18 ≠ 0
          · rw [if_pos h20] at hf
            refine go_it (t := 151) (f := 148) (L1 := [some (.ref 35), some (.int x1), some (.int x2), none]) (st1 := []) (σ1 := σ) rfl h20 ?_
            refine go_n 3 (f := (154, [some (.ref 35), some (.int x1), some (.int x2), none], [.int x1, .int x2, .ref 35], σ)) rfl ?_
            obtain ⟨q21, h22, hf⟩ := bnd hf
            refine go_c (mid := 11522) (args := [.ref 35, .int x2, .int x1]) (pc := 157) (L := [some (.ref 35), some (.int x1), some (.int x2), none]) (st := []) (σ := σ) rfl ((fX5_beside_ok _ _ _ q21 h22).deep (Nat.le_of_ble_eq_true rfl)) ?_
            refine go_n 3 (f := (160, [some (.ref 35), some (.int x1), some (.int x2), some (.int q21)], [.int (-1), .int q21], σ)) rfl ?_
            by_cases h23 : q21 ≠ (-1)
            · rw [if_pos h23] at hf
              refine go_it (t := 166) (f := 163) (L1 := [some (.ref 35), some (.int x1), some (.int x2), some (.int q21)]) (st1 := []) (σ1 := σ) rfl h23 ?_
              refine go_n 10 (f := (187, [some (.ref 35), some (.int x1), some (.int x2), some (.int q21)], [.ref 35, .ref 14, .int 20, .int (gi σ 35 5), .ref 37], σ)) rfl ?_
              refine go_n 4 (f := (197, [some (.ref 35), some (.int x1), some (.int x2), some (.int q21)], [.int x2, .ref 2, .ref 14, .int 20, .int (gi σ 35 5), .ref 37], σ)) rfl ?_
              obtain ⟨q24, h25, hf⟩ := bnd hf
              refine go_c (mid := 2825) (args := [.ref 2, .int x2]) (pc := 200) (L := [some (.ref 35), some (.int x1), some (.int x2), some (.int q21)]) (st := [.ref 14, .int 20, .int (gi σ 35 5), .ref 37]) (σ := σ) rfl ((fJ2_get_ok _ _ _ q24 h25).deep (Nat.le_of_ble_eq_true rfl)) ?_
              obtain ⟨h26, hf⟩ := grd hf
              refine go_cast rfl rfl rfl h26 ?_
              obtain ⟨h27, hf⟩ := grd hf
              refine go_get rfl rfl rfl h27 ?_
              obtain ⟨h28, hf⟩ := grd hf
              refine go_iald rfl rfl rfl h28 ?_
              refine go_n 6 (f := (219, [some (.ref 35), some (.int x1), some (.int x2), some (.int q21)], [.int x2, .ref 18, .int (20 * (gi σ 14 (gi σ q24 1).toNatClampNeg)), .int (gi σ 35 5), .ref 37], σ)) rfl ?_
              obtain ⟨h29, hf⟩ := grd hf
              refine go_iald rfl rfl rfl h29 ?_
              refine go_n 1 (f := (221, [some (.ref 35), some (.int x1), some (.int x2), some (.int q21)], [.int ((20 * (gi σ 14 (gi σ q24 1).toNatClampNeg)) + (gi σ 18 x2.toNatClampNeg)), .int (gi σ 35 5), .ref 37], σ)) rfl ?_
              obtain ⟨h30, hf⟩ := grd hf
              refine go_iast rfl rfl rfl h30 ?_
              refine go_n 10 (f := (242, [some (.ref 35), some (.int x1), some (.int x2), some (.int q21)], [.ref 25, .int q21, .ref 0, .int (gi σ 35 5), .ref 38], (wi σ 37 (gi σ 35 5).toNatClampNeg ((20 * (gi σ 14 (gi σ q24 1).toNatClampNeg)) + (gi σ 18 x2.toNatClampNeg))))) rfl ?_
              refine go_n 1 (f := (243, [some (.ref 35), some (.int x1), some (.int x2), some (.int q21)], [.int x2, .ref 25, .int q21, .ref 0, .int (gi σ 35 5), .ref 38], (wi σ 37 (gi σ 35 5).toNatClampNeg ((20 * (gi σ 14 (gi σ q24 1).toNatClampNeg)) + (gi σ 18 x2.toNatClampNeg))))) rfl ?_
              obtain ⟨h31, hf⟩ := grd hf
              refine go_iald rfl rfl rfl h31 ?_
              refine go_n 1 (f := (245, [some (.ref 35), some (.int x1), some (.int x2), some (.int q21)], [.int x1, .int (gi σ 25 x2.toNatClampNeg), .int q21, .ref 0, .int (gi σ 35 5), .ref 38], (wi σ 37 (gi σ 35 5).toNatClampNeg ((20 * (gi σ 14 (gi σ q24 1).toNatClampNeg)) + (gi σ 18 x2.toNatClampNeg))))) rfl ?_
              obtain ⟨q32, h33, hf⟩ := bnd hf
              refine go_c (mid := 5171) (args := [.ref 0, .int q21, .int (gi σ 25 x2.toNatClampNeg), .int x1]) (pc := 248) (L := [some (.ref 35), some (.int x1), some (.int x2), some (.int q21)]) (st := [.int (gi σ 35 5), .ref 38]) (σ := (wi σ 37 (gi σ 35 5).toNatClampNeg ((20 * (gi σ 14 (gi σ q24 1).toNatClampNeg)) + (gi σ 18 x2.toNatClampNeg)))) rfl ((fX0_rightOf_ok _ _ _ _ q32 h33).deep (Nat.le_of_ble_eq_true rfl)) ?_
              obtain ⟨h34, hf⟩ := grd hf
              refine go_last rfl rfl rfl h34 ?_
              refine go_n 6 (f := (261, [some (.ref 35), some (.int x1), some (.int x2), some (.int q21)], [.int (gi q32.2 35 5), .ref 37, .ref 36], (wl q32.2 38 (gi σ 35 5).toNatClampNeg q32.1))) rfl ?_
              obtain ⟨h35, hf⟩ := grd hf
              refine go_iald rfl rfl rfl h35 ?_
              refine go_n 1 (f := (263, [some (.ref 35), some (.int x1), some (.int x2), some (.int q21)], [.int (gi q32.2 37 (gi q32.2 35 5).toNatClampNeg), .ref 36, .int (gi q32.2 37 (gi q32.2 35 5).toNatClampNeg), .ref 36], (wl q32.2 38 (gi σ 35 5).toNatClampNeg q32.1))) rfl ?_
              obtain ⟨h36, hf⟩ := grd hf
              refine go_iald rfl rfl rfl h36 ?_
              refine go_n 2 (f := (266, [some (.ref 35), some (.int x1), some (.int x2), some (.int q21)], [.int ((gi q32.2 36 (gi q32.2 37 (gi q32.2 35 5).toNatClampNeg).toNatClampNeg) + 1), .int (gi q32.2 37 (gi q32.2 35 5).toNatClampNeg), .ref 36], (wl q32.2 38 (gi σ 35 5).toNatClampNeg q32.1))) rfl ?_
              obtain ⟨h37, hf⟩ := grd hf
              refine go_iast rfl rfl rfl h37 ?_
              refine go_n 6 (f := (277, [some (.ref 35), some (.int x1), some (.int x2), some (.int q21)], [], (wi (wi (wl q32.2 38 (gi σ 35 5).toNatClampNeg q32.1) 36 (gi q32.2 37 (gi q32.2 35 5).toNatClampNeg).toNatClampNeg ((gi q32.2 36 (gi q32.2 37 (gi q32.2 35 5).toNatClampNeg).toNatClampNeg) + 1)) 35 5 ((gi q32.2 35 5) + 1)))) rfl ?_
              refine go_e (L1 := [some (.ref 35), some (.int x1), some (.int x2), none]) rfl rfl ?_
              exact fX5_looks_J277_ok _ _ _ _ hrec75 _ hf
            · rw [if_neg h23] at hf
              refine go_if (t := 166) (f := 163) (L1 := [some (.ref 35), some (.int x1), some (.int x2), some (.int q21)]) (st1 := []) (σ1 := σ) rfl h23 ?_
              refine go_n 1 (f := (277, [some (.ref 35), some (.int x1), some (.int x2), some (.int q21)], [], σ)) rfl ?_
              refine go_e (L1 := [some (.ref 35), some (.int x1), some (.int x2), none]) rfl rfl ?_
              exact fX5_looks_J277_ok _ _ _ _ hrec75 _ hf
          · rw [if_neg h20] at hf
            refine go_if (t := 151) (f := 148) (L1 := [some (.ref 35), some (.int x1), some (.int x2), none]) (st1 := []) (σ1 := σ) rfl h20 ?_
            refine go_n 1 (f := (277, [some (.ref 35), some (.int x1), some (.int x2), none], [], σ)) rfl ?_
            exact fX5_looks_J277_ok _ _ _ _ hrec75 _ hf
def fX5_looks_L53 (x1 : Int32)  (rec53 : (Int32 × Sg) → Option Sg) (s : Int32 × Sg) : Option Sg :=
  match s with
  | (x2, σ) => if 160 ≤ x2 then lp (fX5_looks_L75 x1 ) N0 (0, σ) else if inb x2 160 then rec53 ((x2 + 1), (wi σ 36 x2.toNatClampNeg 0)) else none
set_option maxHeartbeats 1500000 in
theorem fX5_looks_L53_ok (x1 : Int32)   : ∀ (n : Nat) (x2 : Int32) (σ : Sg) (r : Sg), lp (fX5_looks_L53 x1 ) n (x2, σ) = some r → Go true 3244 iX5_looks (53, [some (.ref 35), some (.int x1), some (.int x2), none], [], σ) (.inl none, r) := by
  intro n
  induction n with
  | zero => intro x2 σ r hf; cases hf
  | succ n ih =>
    intro x2 σ r hf
    have hf : fX5_looks_L53 x1  (lp (fX5_looks_L53 x1 ) n) (x2, σ) = some r := hf
    have hrec53 := ih
    generalize lp (fX5_looks_L53 x1 ) n = rec53 at hf hrec53
    unfold fX5_looks_L53 at hf
    dsimp only at hf
    refine go_n 2 (f := (57, [some (.ref 35), some (.int x1), some (.int x2), none], [.int 160, .int x2], σ)) rfl ?_
    by_cases h4 : 160 ≤ x2
    · rw [if_pos h4] at hf
      refine go_it (t := 73) (f := 60) (L1 := [some (.ref 35), some (.int x1), some (.int x2), none]) (st1 := []) (σ1 := σ) rfl h4 ?_
      refine go_n 2 (f := (75, [some (.ref 35), some (.int x1), some (.int 0), none], [], σ)) rfl ?_
      exact fX5_looks_L75_ok _   N0 _ _ _ hf
    · rw [if_neg h4] at hf
      refine go_if (t := 73) (f := 60) (L1 := [some (.ref 35), some (.int x1), some (.int x2), none]) (st1 := []) (σ1 := σ) rfl h4 ?_
      refine go_n 4 (f := (66, [some (.ref 35), some (.int x1), some (.int x2), none], [.int 0, .int x2, .ref 36], σ)) rfl ?_
      obtain ⟨h38, hf⟩ := grd hf
      refine go_iast rfl rfl rfl h38 ?_
      refine go_n 2 (f := (53, [some (.ref 35), some (.int x1), some (.int (x2 + 1)), none], [], (wi σ 36 x2.toNatClampNeg 0))) rfl ?_
      exact hrec53 _ _ _ hf
def fX5_looks_J23 (x1 : Int32)  (σ : Sg) : Option Sg :=
  (fX0_dates  (wi (wi σ 35 3 x1) 35 4 (gi σ 0 1))).bind fun q2 => lp (fX5_looks_L53 x1 ) N0 (0, (wi q2 35 5 0))
set_option maxHeartbeats 1500000 in
theorem fX5_looks_J23_ok (x1 : Int32)  (σ : Sg)  (r : Sg) (hf : fX5_looks_J23 x1  σ = some r) : Go true 3244 iX5_looks (23, [some (.ref 35), some (.int x1), none, none], [], σ) (.inl none, r) := by
  unfold fX5_looks_J23 at hf
  refine go_n 8 (f := (39, [some (.ref 35), some (.int x1), none, none], [], (wi (wi σ 35 3 x1) 35 4 (gi σ 0 1)))) rfl ?_
  refine go_n 2 (f := (43, [some (.ref 35), some (.int x1), none, none], [.ref 0], (wi (wi σ 35 3 x1) 35 4 (gi σ 0 1)))) rfl ?_
  obtain ⟨q2, h3, hf⟩ := bnd hf
  refine go_c (mid := 5159) (args := [.ref 0]) (pc := 46) (L := [some (.ref 35), some (.int x1), none, none]) (st := []) (σ := (wi (wi σ 35 3 x1) 35 4 (gi σ 0 1))) rfl ((fX0_dates_ok _ q2 h3).deep (Nat.le_of_ble_eq_true rfl)) ?_
  refine go_n 5 (f := (53, [some (.ref 35), some (.int x1), some (.int 0), none], [], (wi q2 35 5 0))) rfl ?_
  exact fX5_looks_L53_ok _   N0 _ _ _ hf
def fX5_looks (x1 : Int32) (σ : Sg) : Option Sg :=
  if (gi σ 35 3) ≠ x1 then fX5_looks_J23 x1  σ else if (gi σ 35 4) ≠ (gi σ 0 1) then fX5_looks_J23 x1  σ else some σ
set_option maxHeartbeats 1500000 in
theorem fX5_looks_ok (x1 : Int32) (σ : Sg) (r : Sg) (hf : fX5_looks x1 σ = some r) : Cl true 3244 11521 [.ref 35, .int x1] σ (.inl none, r) := by
  refine ⟨iX5_looks, rfl, Nat.le_of_ble_eq_true rfl, Nat.le_of_ble_eq_true rfl, ?_⟩
  show Go true 3244 iX5_looks (0, [some (.ref 35), some (.int x1), none, none], [], σ) (.inl none, r)
  unfold fX5_looks at hf
  refine go_n 3 (f := (5, [some (.ref 35), some (.int x1), none, none], [.int x1, .int (gi σ 35 3)], σ)) rfl ?_
  by_cases h1 : (gi σ 35 3) ≠ x1
  · rw [if_pos h1] at hf
    refine go_it (t := 23) (f := 8) (L1 := [some (.ref 35), some (.int x1), none, none]) (st1 := []) (σ1 := σ) rfl h1 ?_
    exact fX5_looks_J23_ok _  _  _ hf
  · rw [if_neg h1] at hf
    refine go_if (t := 23) (f := 8) (L1 := [some (.ref 35), some (.int x1), none, none]) (st1 := []) (σ1 := σ) rfl h1 ?_
    refine go_n 5 (f := (19, [some (.ref 35), some (.int x1), none, none], [.int (gi σ 0 1), .int (gi σ 35 4)], σ)) rfl ?_
    by_cases h39 : (gi σ 35 4) ≠ (gi σ 0 1)
    · rw [if_pos h39] at hf
      refine go_it (t := 23) (f := 22) (L1 := [some (.ref 35), some (.int x1), none, none]) (st1 := []) (σ1 := σ) rfl h39 ?_
      exact fX5_looks_J23_ok _  _  _ hf
    · rw [if_neg h39] at hf
      refine go_if (t := 23) (f := 22) (L1 := [some (.ref 35), some (.int x1), none, none]) (st1 := []) (σ1 := σ) rfl h39 ?_
      cases hf
      exact go_r rfl
/-! OldWeather.learns(III)Z -/
def fX0_learns_J276 (x1 : Int32) (x5 : Int32) (x6 : Int32) (x7 : Int32) (x8 : Int32) (rec105 : (Int32 × Int32 × Int32 × Sg) → Option (Int32 × Sg)) (σ : Sg) : Option (Int32 × Sg) :=
  rec105 (x6, x7, (x8 + 1), σ)
set_option maxHeartbeats 1500000 in
theorem fX0_learns_J276_ok (x1 : Int32) (x5 : Int32) (x6 : Int32) (x7 : Int32) (x8 : Int32) (rec105 : (Int32 × Int32 × Int32 × Sg) → Option (Int32 × Sg)) (σ : Sg) (hrec105 : ∀ (y6 : Int32) (y7 : Int32) (y8 : Int32) (τ : Sg) (r : (Int32 × Sg)), rec105 (y6, y7, y8, τ) = some r → Go true 3245 iX0_learns (105, [some (.ref 0), some (.int x1), none, none, none, some (.int x5), some (.int y6), some (.int y7), some (.int y8), none, none, none, none, none, none], [], τ) (.inl (some (.int (r).1)), (r).2)) (r : (Int32 × Sg)) (hf : fX0_learns_J276 x1 x5 x6 x7 x8 rec105 σ = some r) : Go true 3245 iX0_learns (276, [some (.ref 0), some (.int x1), none, none, none, some (.int x5), some (.int x6), some (.int x7), some (.int x8), none, none, none, none, none, none], [], σ) (.inl (some (.int (r).1)), (r).2) := by
  unfold fX0_learns_J276 at hf
  refine go_n 2 (f := (105, [some (.ref 0), some (.int x1), none, none, none, some (.int x5), some (.int x6), some (.int x7), some (.int (x8 + 1)), none, none, none, none, none, none], [], σ)) rfl ?_
  exact hrec105 _ _ _ _ _ hf
def fX0_learns_J238 (x1 : Int32) (x5 : Int32) (x6 : Int32) (x7 : Int32) (x8 : Int32) (x10 : Int32) (rec105 : (Int32 × Int32 × Int32 × Sg) → Option (Int32 × Sg)) (σ : Sg) : Option (Int32 × Sg) :=
  ((fun (z23 : Int32) => ((fun (z26 : Int32) => fX0_learns_J276 x1 x5 z23 z26 x8 rec105 σ) ((if x7 ≠ 0 then 1 else (if x10 ≤ x5 then 0 else 1)) : Int32))) ((if x6 ≠ 0 then 1 else (if x5 ≤ x10 then 0 else 1)) : Int32))
set_option maxHeartbeats 1500000 in
theorem fX0_learns_J238_ok (x1 : Int32) (x5 : Int32) (x6 : Int32) (x7 : Int32) (x8 : Int32) (x10 : Int32) (rec105 : (Int32 × Int32 × Int32 × Sg) → Option (Int32 × Sg)) (σ : Sg) (hrec105 : ∀ (y6 : Int32) (y7 : Int32) (y8 : Int32) (τ : Sg) (r : (Int32 × Sg)), rec105 (y6, y7, y8, τ) = some r → Go true 3245 iX0_learns (105, [some (.ref 0), some (.int x1), none, none, none, some (.int x5), some (.int y6), some (.int y7), some (.int y8), none, none, none, none, none, none], [], τ) (.inl (some (.int (r).1)), (r).2)) (r : (Int32 × Sg)) (hf : fX0_learns_J238 x1 x5 x6 x7 x8 x10 rec105 σ = some r) : Go true 3245 iX0_learns (238, [some (.ref 0), some (.int x1), none, none, none, some (.int x5), some (.int x6), some (.int x7), some (.int x8), none, some (.int x10), none, none, none, none], [], σ) (.inl (some (.int (r).1)), (r).2) := by
  unfold fX0_learns_J238 at hf
  refine go_n 1 (f := (240, [some (.ref 0), some (.int x1), none, none, none, some (.int x5), some (.int x6), some (.int x7), some (.int x8), none, some (.int x10), none, none, none, none], [.int x6], σ)) rfl ?_
  refine go_m (f := (255, [some (.ref 0), some (.int x1), none, none, none, some (.int x5), none, some (.int x7), some (.int x8), none, some (.int x10), none, none, none, none], [.int ((if x6 ≠ 0 then 1 else (if x5 ≤ x10 then 0 else 1)) : Int32)], σ)) ?_ (fun hJ28 => ?_)
  · generalize hz23 : ((if x6 ≠ 0 then 1 else (if x5 ≤ x10 then 0 else 1)) : Int32) = z23 at hf ⊢
    have oz23 : am_ok 3 z23 = true := hz23 ▸ (okb rfl (okb rfl rfl))
    try dsimp only at hf
    refine go_n 2 (f := (259, [some (.ref 0), some (.int x1), none, none, none, some (.int x5), some (.int z23), some (.int x7), some (.int x8), none, some (.int x10), none, none, none, none], [.int x7], σ)) rfl ?_
    refine go_m (f := (274, [some (.ref 0), some (.int x1), none, none, none, some (.int x5), some (.int z23), none, some (.int x8), none, none, none, none, none, none], [.int ((if x7 ≠ 0 then 1 else (if x10 ≤ x5 then 0 else 1)) : Int32)], σ)) ?_ (fun hJ27 => ?_)
    · generalize hz26 : ((if x7 ≠ 0 then 1 else (if x10 ≤ x5 then 0 else 1)) : Int32) = z26 at hf ⊢
      have oz26 : am_ok 3 z26 = true := hz26 ▸ (okb rfl (okb rfl rfl))
      try dsimp only at hf
      refine go_n 1 (f := (276, [some (.ref 0), some (.int x1), none, none, none, some (.int x5), some (.int z23), some (.int z26), some (.int x8), none, none, none, none, none, none], [], σ)) rfl ?_
      exact fX0_learns_J276_ok _ _ _ _ _ _ _ hrec105 _ hf
    · by_cases h24 : x7 ≠ 0
      · refine go_it (t := 269) (f := 262) (L1 := [some (.ref 0), some (.int x1), none, none, none, some (.int x5), some (.int z23), some (.int x7), some (.int x8), none, some (.int x10), none, none, none, none]) (st1 := []) (σ1 := σ) rfl h24 ?_
        refine go_e (L1 := [some (.ref 0), some (.int x1), none, none, none, some (.int x5), some (.int z23), none, some (.int x8), none, none, none, none, none, none]) rfl rfl ?_
        refine go_n 2 (f := (274, [some (.ref 0), some (.int x1), none, none, none, some (.int x5), some (.int z23), none, some (.int x8), none, none, none, none, none, none], [.int 1], σ)) rfl ?_
        refine go_e (L1 := [some (.ref 0), some (.int x1), none, none, none, some (.int x5), some (.int z23), none, some (.int x8), none, none, none, none, none, none]) rfl rfl ?_
        simp only [if_pos h24] at hJ27
        first | exact hJ27 | (simp only [if_pos h24]; exact hJ27)
      · refine go_if (t := 269) (f := 262) (L1 := [some (.ref 0), some (.int x1), none, none, none, some (.int x5), some (.int z23), some (.int x7), some (.int x8), none, some (.int x10), none, none, none, none]) (st1 := []) (σ1 := σ) rfl h24 ?_
        refine go_n 2 (f := (266, [some (.ref 0), some (.int x1), none, none, none, some (.int x5), some (.int z23), some (.int x7), some (.int x8), none, some (.int x10), none, none, none, none], [.int x5, .int x10], σ)) rfl ?_
        by_cases h25 : x10 ≤ x5
        · refine go_it (t := 273) (f := 269) (L1 := [some (.ref 0), some (.int x1), none, none, none, some (.int x5), some (.int z23), some (.int x7), some (.int x8), none, some (.int x10), none, none, none, none]) (st1 := []) (σ1 := σ) rfl h25 ?_
          refine go_n 1 (f := (274, [some (.ref 0), some (.int x1), none, none, none, some (.int x5), some (.int z23), some (.int x7), some (.int x8), none, some (.int x10), none, none, none, none], [.int 0], σ)) rfl ?_
          refine go_e (L1 := [some (.ref 0), some (.int x1), none, none, none, some (.int x5), some (.int z23), none, some (.int x8), none, none, none, none, none, none]) rfl rfl ?_
          simp only [if_neg h24, if_pos h25] at hJ27
          first | exact hJ27 | (simp only [if_neg h24, if_pos h25]; exact hJ27)
        · refine go_if (t := 273) (f := 269) (L1 := [some (.ref 0), some (.int x1), none, none, none, some (.int x5), some (.int z23), some (.int x7), some (.int x8), none, some (.int x10), none, none, none, none]) (st1 := []) (σ1 := σ) rfl h25 ?_
          refine go_e (L1 := [some (.ref 0), some (.int x1), none, none, none, some (.int x5), some (.int z23), none, some (.int x8), none, none, none, none, none, none]) rfl rfl ?_
          refine go_n 2 (f := (274, [some (.ref 0), some (.int x1), none, none, none, some (.int x5), some (.int z23), none, some (.int x8), none, none, none, none, none, none], [.int 1], σ)) rfl ?_
          refine go_e (L1 := [some (.ref 0), some (.int x1), none, none, none, some (.int x5), some (.int z23), none, some (.int x8), none, none, none, none, none, none]) rfl rfl ?_
          simp only [if_neg h24, if_neg h25] at hJ27
          first | exact hJ27 | (simp only [if_neg h24, if_neg h25]; exact hJ27)
  · by_cases h21 : x6 ≠ 0
    · refine go_it (t := 250) (f := 243) (L1 := [some (.ref 0), some (.int x1), none, none, none, some (.int x5), some (.int x6), some (.int x7), some (.int x8), none, some (.int x10), none, none, none, none]) (st1 := []) (σ1 := σ) rfl h21 ?_
      refine go_e (L1 := [some (.ref 0), some (.int x1), none, none, none, some (.int x5), none, some (.int x7), some (.int x8), none, some (.int x10), none, none, none, none]) rfl rfl ?_
      refine go_n 2 (f := (255, [some (.ref 0), some (.int x1), none, none, none, some (.int x5), none, some (.int x7), some (.int x8), none, some (.int x10), none, none, none, none], [.int 1], σ)) rfl ?_
      refine go_e (L1 := [some (.ref 0), some (.int x1), none, none, none, some (.int x5), none, some (.int x7), some (.int x8), none, some (.int x10), none, none, none, none]) rfl rfl ?_
      simp only [if_pos h21] at hJ28
      first | exact hJ28 | (simp only [if_pos h21]; exact hJ28)
    · refine go_if (t := 250) (f := 243) (L1 := [some (.ref 0), some (.int x1), none, none, none, some (.int x5), some (.int x6), some (.int x7), some (.int x8), none, some (.int x10), none, none, none, none]) (st1 := []) (σ1 := σ) rfl h21 ?_
      refine go_n 2 (f := (247, [some (.ref 0), some (.int x1), none, none, none, some (.int x5), some (.int x6), some (.int x7), some (.int x8), none, some (.int x10), none, none, none, none], [.int x5, .int x10], σ)) rfl ?_
      by_cases h22 : x5 ≤ x10
      · refine go_it (t := 254) (f := 250) (L1 := [some (.ref 0), some (.int x1), none, none, none, some (.int x5), some (.int x6), some (.int x7), some (.int x8), none, some (.int x10), none, none, none, none]) (st1 := []) (σ1 := σ) rfl h22 ?_
        refine go_n 1 (f := (255, [some (.ref 0), some (.int x1), none, none, none, some (.int x5), some (.int x6), some (.int x7), some (.int x8), none, some (.int x10), none, none, none, none], [.int 0], σ)) rfl ?_
        refine go_e (L1 := [some (.ref 0), some (.int x1), none, none, none, some (.int x5), none, some (.int x7), some (.int x8), none, some (.int x10), none, none, none, none]) rfl rfl ?_
        simp only [if_neg h21, if_pos h22] at hJ28
        first | exact hJ28 | (simp only [if_neg h21, if_pos h22]; exact hJ28)
      · refine go_if (t := 254) (f := 250) (L1 := [some (.ref 0), some (.int x1), none, none, none, some (.int x5), some (.int x6), some (.int x7), some (.int x8), none, some (.int x10), none, none, none, none]) (st1 := []) (σ1 := σ) rfl h22 ?_
        refine go_e (L1 := [some (.ref 0), some (.int x1), none, none, none, some (.int x5), none, some (.int x7), some (.int x8), none, some (.int x10), none, none, none, none]) rfl rfl ?_
        refine go_n 2 (f := (255, [some (.ref 0), some (.int x1), none, none, none, some (.int x5), none, some (.int x7), some (.int x8), none, some (.int x10), none, none, none, none], [.int 1], σ)) rfl ?_
        refine go_e (L1 := [some (.ref 0), some (.int x1), none, none, none, some (.int x5), none, some (.int x7), some (.int x8), none, some (.int x10), none, none, none, none]) rfl rfl ?_
        simp only [if_neg h21, if_neg h22] at hJ28
        first | exact hJ28 | (simp only [if_neg h21, if_neg h22]; exact hJ28)
def fX0_learns_J232 (x1 : Int32) (x5 : Int32) (x6 : Int32) (x7 : Int32) (x8 : Int32) (x10 : Int32) (x13 : Int64) (rec105 : (Int32 × Int32 × Int32 × Sg) → Option (Int32 × Sg)) (σ : Sg) : Option (Int32 × Sg) :=
  fX0_learns_J238 x1 x5 x6 x7 x8 x10 rec105 (wl σ 0 20 x13)
set_option maxHeartbeats 1500000 in
theorem fX0_learns_J232_ok (x1 : Int32) (x5 : Int32) (x6 : Int32) (x7 : Int32) (x8 : Int32) (x10 : Int32) (x13 : Int64) (rec105 : (Int32 × Int32 × Int32 × Sg) → Option (Int32 × Sg)) (σ : Sg) (hrec105 : ∀ (y6 : Int32) (y7 : Int32) (y8 : Int32) (τ : Sg) (r : (Int32 × Sg)), rec105 (y6, y7, y8, τ) = some r → Go true 3245 iX0_learns (105, [some (.ref 0), some (.int x1), none, none, none, some (.int x5), some (.int y6), some (.int y7), some (.int y8), none, none, none, none, none, none], [], τ) (.inl (some (.int (r).1)), (r).2)) (r : (Int32 × Sg)) (hf : fX0_learns_J232 x1 x5 x6 x7 x8 x10 x13 rec105 σ = some r) : Go true 3245 iX0_learns (232, [some (.ref 0), some (.int x1), none, none, none, some (.int x5), some (.int x6), some (.int x7), some (.int x8), none, some (.int x10), none, none, some (.long x13), none], [], σ) (.inl (some (.int (r).1)), (r).2) := by
  unfold fX0_learns_J232 at hf
  refine go_n 3 (f := (238, [some (.ref 0), some (.int x1), none, none, none, some (.int x5), some (.int x6), some (.int x7), some (.int x8), none, some (.int x10), none, none, some (.long x13), none], [], (wl σ 0 20 x13))) rfl ?_
  refine go_e (L1 := [some (.ref 0), some (.int x1), none, none, none, some (.int x5), some (.int x6), some (.int x7), some (.int x8), none, some (.int x10), none, none, none, none]) rfl rfl ?_
  exact fX0_learns_J238_ok _ _ _ _ _ _ _ _ hrec105 _ hf
def fX0_learns_J210 (x1 : Int32) (x5 : Int32) (x6 : Int32) (x7 : Int32) (x8 : Int32) (x10 : Int32) (x13 : Int64) (rec105 : (Int32 × Int32 × Int32 × Sg) → Option (Int32 × Sg)) (σ : Sg) : Option (Int32 × Sg) :=
  if x10 ≤ x5 then fX0_learns_J238 x1 x5 x6 x7 x8 x10 rec105 σ else if x7 = 0 then fX0_learns_J232 x1 x5 x6 x7 x8 x10 x13 rec105 σ else if (gl σ 0 20) ≤ x13 then fX0_learns_J238 x1 x5 x6 x7 x8 x10 rec105 σ else fX0_learns_J232 x1 x5 x6 x7 x8 x10 x13 rec105 σ
set_option maxHeartbeats 1500000 in
theorem fX0_learns_J210_ok (x1 : Int32) (x5 : Int32) (x6 : Int32) (x7 : Int32) (x8 : Int32) (x10 : Int32) (x13 : Int64) (rec105 : (Int32 × Int32 × Int32 × Sg) → Option (Int32 × Sg)) (σ : Sg) (hrec105 : ∀ (y6 : Int32) (y7 : Int32) (y8 : Int32) (τ : Sg) (r : (Int32 × Sg)), rec105 (y6, y7, y8, τ) = some r → Go true 3245 iX0_learns (105, [some (.ref 0), some (.int x1), none, none, none, some (.int x5), some (.int y6), some (.int y7), some (.int y8), none, none, none, none, none, none], [], τ) (.inl (some (.int (r).1)), (r).2)) (r : (Int32 × Sg)) (hf : fX0_learns_J210 x1 x5 x6 x7 x8 x10 x13 rec105 σ = some r) : Go true 3245 iX0_learns (210, [some (.ref 0), some (.int x1), none, none, none, some (.int x5), some (.int x6), some (.int x7), some (.int x8), none, some (.int x10), none, none, some (.long x13), none], [], σ) (.inl (some (.int (r).1)), (r).2) := by
  unfold fX0_learns_J210 at hf
  refine go_n 2 (f := (214, [some (.ref 0), some (.int x1), none, none, none, some (.int x5), some (.int x6), some (.int x7), some (.int x8), none, some (.int x10), none, none, some (.long x13), none], [.int x5, .int x10], σ)) rfl ?_
  by_cases h20 : x10 ≤ x5
  · rw [if_pos h20] at hf
    refine go_it (t := 238) (f := 217) (L1 := [some (.ref 0), some (.int x1), none, none, none, some (.int x5), some (.int x6), some (.int x7), some (.int x8), none, some (.int x10), none, none, some (.long x13), none]) (st1 := []) (σ1 := σ) rfl h20 ?_
    refine go_e (L1 := [some (.ref 0), some (.int x1), none, none, none, some (.int x5), some (.int x6), some (.int x7), some (.int x8), none, some (.int x10), none, none, none, none]) rfl rfl ?_
    exact fX0_learns_J238_ok _ _ _ _ _ _ _ _ hrec105 _ hf
  · rw [if_neg h20] at hf
    refine go_if (t := 238) (f := 217) (L1 := [some (.ref 0), some (.int x1), none, none, none, some (.int x5), some (.int x6), some (.int x7), some (.int x8), none, some (.int x10), none, none, some (.long x13), none]) (st1 := []) (σ1 := σ) rfl h20 ?_
    refine go_n 1 (f := (219, [some (.ref 0), some (.int x1), none, none, none, some (.int x5), some (.int x6), some (.int x7), some (.int x8), none, some (.int x10), none, none, some (.long x13), none], [.int x7], σ)) rfl ?_
    by_cases h29 : x7 = 0
    · rw [if_pos h29] at hf
      refine go_it (t := 232) (f := 222) (L1 := [some (.ref 0), some (.int x1), none, none, none, some (.int x5), some (.int x6), some (.int x7), some (.int x8), none, some (.int x10), none, none, some (.long x13), none]) (st1 := []) (σ1 := σ) rfl h29 ?_
      exact fX0_learns_J232_ok _ _ _ _ _ _ _ _ _ hrec105 _ hf
    · rw [if_neg h29] at hf
      refine go_if (t := 232) (f := 222) (L1 := [some (.ref 0), some (.int x1), none, none, none, some (.int x5), some (.int x6), some (.int x7), some (.int x8), none, some (.int x10), none, none, some (.long x13), none]) (st1 := []) (σ1 := σ) rfl h29 ?_
      refine go_n 4 (f := (229, [some (.ref 0), some (.int x1), none, none, none, some (.int x5), some (.int x6), some (.int x7), some (.int x8), none, some (.int x10), none, none, some (.long x13), none], [.int (lg_cmp x13 (gl σ 0 20))], σ)) rfl ?_
      by_cases h30 : (gl σ 0 20) ≤ x13
      · rw [if_pos h30] at hf
        refine go_it (t := 238) (f := 232) (L1 := [some (.ref 0), some (.int x1), none, none, none, some (.int x5), some (.int x6), some (.int x7), some (.int x8), none, some (.int x10), none, none, some (.long x13), none]) (st1 := []) (σ1 := σ) rfl ((lgc_ge x13 (gl σ 0 20)).mpr h30) ?_
        refine go_e (L1 := [some (.ref 0), some (.int x1), none, none, none, some (.int x5), some (.int x6), some (.int x7), some (.int x8), none, some (.int x10), none, none, none, none]) rfl rfl ?_
        exact fX0_learns_J238_ok _ _ _ _ _ _ _ _ hrec105 _ hf
      · rw [if_neg h30] at hf
        refine go_if (t := 238) (f := 232) (L1 := [some (.ref 0), some (.int x1), none, none, none, some (.int x5), some (.int x6), some (.int x7), some (.int x8), none, some (.int x10), none, none, some (.long x13), none]) (st1 := []) (σ1 := σ) rfl (fun q => h30 ((lgc_ge x13 (gl σ 0 20)).mp q)) ?_
        exact fX0_learns_J232_ok _ _ _ _ _ _ _ _ _ hrec105 _ hf
def fX0_learns_J204 (x1 : Int32) (x5 : Int32) (x6 : Int32) (x7 : Int32) (x8 : Int32) (x10 : Int32) (x11 : Int64) (x13 : Int64) (rec105 : (Int32 × Int32 × Int32 × Sg) → Option (Int32 × Sg)) (σ : Sg) : Option (Int32 × Sg) :=
  fX0_learns_J210 x1 x5 x6 x7 x8 x10 x13 rec105 (wl σ 0 19 x11)
set_option maxHeartbeats 1500000 in
theorem fX0_learns_J204_ok (x1 : Int32) (x5 : Int32) (x6 : Int32) (x7 : Int32) (x8 : Int32) (x10 : Int32) (x11 : Int64) (x13 : Int64) (rec105 : (Int32 × Int32 × Int32 × Sg) → Option (Int32 × Sg)) (σ : Sg) (hrec105 : ∀ (y6 : Int32) (y7 : Int32) (y8 : Int32) (τ : Sg) (r : (Int32 × Sg)), rec105 (y6, y7, y8, τ) = some r → Go true 3245 iX0_learns (105, [some (.ref 0), some (.int x1), none, none, none, some (.int x5), some (.int y6), some (.int y7), some (.int y8), none, none, none, none, none, none], [], τ) (.inl (some (.int (r).1)), (r).2)) (r : (Int32 × Sg)) (hf : fX0_learns_J204 x1 x5 x6 x7 x8 x10 x11 x13 rec105 σ = some r) : Go true 3245 iX0_learns (204, [some (.ref 0), some (.int x1), none, none, none, some (.int x5), some (.int x6), some (.int x7), some (.int x8), none, some (.int x10), some (.long x11), none, some (.long x13), none], [], σ) (.inl (some (.int (r).1)), (r).2) := by
  unfold fX0_learns_J204 at hf
  refine go_n 3 (f := (210, [some (.ref 0), some (.int x1), none, none, none, some (.int x5), some (.int x6), some (.int x7), some (.int x8), none, some (.int x10), some (.long x11), none, some (.long x13), none], [], (wl σ 0 19 x11))) rfl ?_
  refine go_e (L1 := [some (.ref 0), some (.int x1), none, none, none, some (.int x5), some (.int x6), some (.int x7), some (.int x8), none, some (.int x10), none, none, some (.long x13), none]) rfl rfl ?_
  exact fX0_learns_J210_ok _ _ _ _ _ _ _ _ _ hrec105 _ hf
def fX0_learns_L105 (x1 : Int32) (x5 : Int32)  (rec105 : (Int32 × Int32 × Int32 × Sg) → Option (Int32 × Sg)) (s : Int32 × Int32 × Int32 × Sg) : Option (Int32 × Sg) :=
  match s with
  | (x6, x7, x8, σ) => if 20 ≤ x8 then ((fun (z9 : Int32) => some (z9, σ)) ((if (gl σ 0 20) < (gl σ 0 19) then 0 else 1) : Int32)) else if inb ((20 * x1) + x8) 160 then if (gi σ 20 ((20 * x1) + x8).toNatClampNeg) = (-1) then fX0_learns_J276 x1 x5 x6 x7 x8 rec105 σ else if inb ((20 * x1) + x8) 160 then if 2 ≤ (gi σ 36 ((20 * x1) + x8).toNatClampNeg) then (fX5_end ((20 * x1) + x8) 0 (-1) σ).bind fun q15 => (fX5_end ((20 * x1) + x8) 1 (-1) σ).bind fun q17 => if x5 ≤ (gi σ 20 ((20 * x1) + x8).toNatClampNeg) then fX0_learns_J210 x1 x5 x6 x7 x8 (gi σ 20 ((20 * x1) + x8).toNatClampNeg) q17 rec105 σ else if x6 = 0 then fX0_learns_J204 x1 x5 x6 x7 x8 (gi σ 20 ((20 * x1) + x8).toNatClampNeg) q15 q17 rec105 σ else if q15 ≤ (gl σ 0 19) then fX0_learns_J210 x1 x5 x6 x7 x8 (gi σ 20 ((20 * x1) + x8).toNatClampNeg) q17 rec105 σ else fX0_learns_J204 x1 x5 x6 x7 x8 (gi σ 20 ((20 * x1) + x8).toNatClampNeg) q15 q17 rec105 σ else fX0_learns_J276 x1 x5 x6 x7 x8 rec105 σ else none else none
set_option maxHeartbeats 1500000 in
theorem fX0_learns_L105_ok (x1 : Int32) (x5 : Int32)   : ∀ (n : Nat) (x6 : Int32) (x7 : Int32) (x8 : Int32) (σ : Sg) (r : (Int32 × Sg)), lp (fX0_learns_L105 x1 x5 ) n (x6, x7, x8, σ) = some r → Go true 3245 iX0_learns (105, [some (.ref 0), some (.int x1), none, none, none, some (.int x5), some (.int x6), some (.int x7), some (.int x8), none, none, none, none, none, none], [], σ) (.inl (some (.int (r).1)), (r).2) := by
  intro n
  induction n with
  | zero => intro x6 x7 x8 σ r hf; cases hf
  | succ n ih =>
    intro x6 x7 x8 σ r hf
    have hf : fX0_learns_L105 x1 x5  (lp (fX0_learns_L105 x1 x5 ) n) (x6, x7, x8, σ) = some r := hf
    have hrec105 := ih
    generalize lp (fX0_learns_L105 x1 x5 ) n = rec105 at hf hrec105
    unfold fX0_learns_L105 at hf
    dsimp only at hf
    refine go_n 2 (f := (109, [some (.ref 0), some (.int x1), none, none, none, some (.int x5), some (.int x6), some (.int x7), some (.int x8), none, none, none, none, none, none], [.int 20, .int x8], σ)) rfl ?_
    by_cases h7 : 20 ≤ x8
    · rw [if_pos h7] at hf
      refine go_it (t := 282) (f := 112) (L1 := [some (.ref 0), some (.int x1), none, none, none, some (.int x5), some (.int x6), some (.int x7), some (.int x8), none, none, none, none, none, none]) (st1 := []) (σ1 := σ) rfl h7 ?_
      refine go_n 5 (f := (291, [some (.ref 0), some (.int x1), none, none, none, some (.int x5), some (.int x6), some (.int x7), some (.int x8), none, none, none, none, none, none], [.int (lg_cmp (gl σ 0 19) (gl σ 0 20))], σ)) rfl ?_
      refine go_m (f := (299, [none, none, none, none, none, none, none, none, none, none, none, none, none, none, none], [.int ((if (gl σ 0 20) < (gl σ 0 19) then 0 else 1) : Int32)], σ)) ?_ (fun hJ10 => ?_)
      · generalize hz9 : ((if (gl σ 0 20) < (gl σ 0 19) then 0 else 1) : Int32) = z9 at hf ⊢
        have oz9 : am_ok 3 z9 = true := hz9 ▸ (okb rfl rfl)
        try dsimp only at hf
        cases hf
        exact go_ret rfl rfl (Or.inr (Or.inl ⟨rfl, oz9⟩))
      · by_cases h8 : (gl σ 0 20) < (gl σ 0 19)
        · refine go_it (t := 298) (f := 294) (L1 := [some (.ref 0), some (.int x1), none, none, none, some (.int x5), some (.int x6), some (.int x7), some (.int x8), none, none, none, none, none, none]) (st1 := []) (σ1 := σ) rfl ((lgc_gt (gl σ 0 19) (gl σ 0 20)).mpr h8) ?_
          refine go_n 1 (f := (299, [some (.ref 0), some (.int x1), none, none, none, some (.int x5), some (.int x6), some (.int x7), some (.int x8), none, none, none, none, none, none], [.int 0], σ)) rfl ?_
          refine go_e (L1 := [none, none, none, none, none, none, none, none, none, none, none, none, none, none, none]) rfl rfl ?_
          simp only [if_pos h8] at hJ10
          first | exact hJ10 | (simp only [if_pos h8]; exact hJ10)
        · refine go_if (t := 298) (f := 294) (L1 := [some (.ref 0), some (.int x1), none, none, none, some (.int x5), some (.int x6), some (.int x7), some (.int x8), none, none, none, none, none, none]) (st1 := []) (σ1 := σ) rfl (fun q => h8 ((lgc_gt (gl σ 0 19) (gl σ 0 20)).mp q)) ?_
          refine go_n 2 (f := (299, [some (.ref 0), some (.int x1), none, none, none, some (.int x5), some (.int x6), some (.int x7), some (.int x8), none, none, none, none, none, none], [.int 1], σ)) rfl ?_
          refine go_e (L1 := [none, none, none, none, none, none, none, none, none, none, none, none, none, none, none]) rfl rfl ?_
          simp only [if_neg h8] at hJ10
          first | exact hJ10 | (simp only [if_neg h8]; exact hJ10)
    · rw [if_neg h7] at hf
      refine go_if (t := 282) (f := 112) (L1 := [some (.ref 0), some (.int x1), none, none, none, some (.int x5), some (.int x6), some (.int x7), some (.int x8), none, none, none, none, none, none]) (st1 := []) (σ1 := σ) rfl h7 ?_
      refine go_n 10 (f := (130, [some (.ref 0), some (.int x1), none, none, none, some (.int x5), some (.int x6), some (.int x7), some (.int x8), some (.int ((20 * x1) + x8)), none, none, none, none, none], [.int ((20 * x1) + x8), .ref 20], σ)) rfl ?_
      obtain ⟨h11, hf⟩ := grd hf
      refine go_iald rfl rfl rfl h11 ?_
      refine go_n 3 (f := (136, [some (.ref 0), some (.int x1), none, none, none, some (.int x5), some (.int x6), some (.int x7), some (.int x8), some (.int ((20 * x1) + x8)), some (.int (gi σ 20 ((20 * x1) + x8).toNatClampNeg)), none, none, none, none], [.int (-1), .int (gi σ 20 ((20 * x1) + x8).toNatClampNeg)], σ)) rfl ?_
      by_cases h12 : (gi σ 20 ((20 * x1) + x8).toNatClampNeg) = (-1)
      · rw [if_pos h12] at hf
        refine go_it (t := 276) (f := 139) (L1 := [some (.ref 0), some (.int x1), none, none, none, some (.int x5), some (.int x6), some (.int x7), some (.int x8), some (.int ((20 * x1) + x8)), some (.int (gi σ 20 ((20 * x1) + x8).toNatClampNeg)), none, none, none, none]) (st1 := []) (σ1 := σ) rfl h12 ?_
        refine go_e (L1 := [some (.ref 0), some (.int x1), none, none, none, some (.int x5), some (.int x6), some (.int x7), some (.int x8), none, none, none, none, none, none]) rfl rfl ?_
        exact fX0_learns_J276_ok _ _ _ _ _ _ _ hrec105 _ hf
      · rw [if_neg h12] at hf
        refine go_if (t := 276) (f := 139) (L1 := [some (.ref 0), some (.int x1), none, none, none, some (.int x5), some (.int x6), some (.int x7), some (.int x8), some (.int ((20 * x1) + x8)), some (.int (gi σ 20 ((20 * x1) + x8).toNatClampNeg)), none, none, none, none]) (st1 := []) (σ1 := σ) rfl h12 ?_
        refine go_n 4 (f := (148, [some (.ref 0), some (.int x1), none, none, none, some (.int x5), some (.int x6), some (.int x7), some (.int x8), some (.int ((20 * x1) + x8)), some (.int (gi σ 20 ((20 * x1) + x8).toNatClampNeg)), none, none, none, none], [.int ((20 * x1) + x8), .ref 36], σ)) rfl ?_
        obtain ⟨h13, hf⟩ := grd hf
        refine go_iald rfl rfl rfl h13 ?_
        refine go_n 1 (f := (150, [some (.ref 0), some (.int x1), none, none, none, some (.int x5), some (.int x6), some (.int x7), some (.int x8), some (.int ((20 * x1) + x8)), some (.int (gi σ 20 ((20 * x1) + x8).toNatClampNeg)), none, none, none, none], [.int 2, .int (gi σ 36 ((20 * x1) + x8).toNatClampNeg)], σ)) rfl ?_
        by_cases h14 : 2 ≤ (gi σ 36 ((20 * x1) + x8).toNatClampNeg)
        · rw [if_pos h14] at hf
          refine go_it (t := 156) (f := 153) (L1 := [some (.ref 0), some (.int x1), none, none, none, some (.int x5), some (.int x6), some (.int x7), some (.int x8), some (.int ((20 * x1) + x8)), some (.int (gi σ 20 ((20 * x1) + x8).toNatClampNeg)), none, none, none, none]) (st1 := []) (σ1 := σ) rfl h14 ?_
          refine go_n 5 (f := (164, [some (.ref 0), some (.int x1), none, none, none, some (.int x5), some (.int x6), some (.int x7), some (.int x8), some (.int ((20 * x1) + x8)), some (.int (gi σ 20 ((20 * x1) + x8).toNatClampNeg)), none, none, none, none], [.int (-1), .int 0, .int ((20 * x1) + x8), .ref 35], σ)) rfl ?_
          obtain ⟨q15, h16, hf⟩ := bnd hf
          refine go_c (mid := 11524) (args := [.ref 35, .int ((20 * x1) + x8), .int 0, .int (-1)]) (pc := 167) (L := [some (.ref 0), some (.int x1), none, none, none, some (.int x5), some (.int x6), some (.int x7), some (.int x8), some (.int ((20 * x1) + x8)), some (.int (gi σ 20 ((20 * x1) + x8).toNatClampNeg)), none, none, none, none]) (st := []) (σ := σ) rfl ((fX5_end_ok _ _ _ _ q15 h16).deep (Nat.le_of_ble_eq_true rfl)) ?_
          refine go_n 6 (f := (177, [some (.ref 0), some (.int x1), none, none, none, some (.int x5), some (.int x6), some (.int x7), some (.int x8), some (.int ((20 * x1) + x8)), some (.int (gi σ 20 ((20 * x1) + x8).toNatClampNeg)), some (.long q15), none, none, none], [.int (-1), .int 1, .int ((20 * x1) + x8), .ref 35], σ)) rfl ?_
          obtain ⟨q17, h18, hf⟩ := bnd hf
          refine go_c (mid := 11524) (args := [.ref 35, .int ((20 * x1) + x8), .int 1, .int (-1)]) (pc := 180) (L := [some (.ref 0), some (.int x1), none, none, none, some (.int x5), some (.int x6), some (.int x7), some (.int x8), some (.int ((20 * x1) + x8)), some (.int (gi σ 20 ((20 * x1) + x8).toNatClampNeg)), some (.long q15), none, none, none]) (st := []) (σ := σ) rfl ((fX5_end_ok _ _ _ _ q17 h18).deep (Nat.le_of_ble_eq_true rfl)) ?_
          refine go_n 3 (f := (186, [some (.ref 0), some (.int x1), none, none, none, some (.int x5), some (.int x6), some (.int x7), some (.int x8), some (.int ((20 * x1) + x8)), some (.int (gi σ 20 ((20 * x1) + x8).toNatClampNeg)), some (.long q15), none, some (.long q17), none], [.int x5, .int (gi σ 20 ((20 * x1) + x8).toNatClampNeg)], σ)) rfl ?_
          by_cases h19 : x5 ≤ (gi σ 20 ((20 * x1) + x8).toNatClampNeg)
          · rw [if_pos h19] at hf
            refine go_it (t := 210) (f := 189) (L1 := [some (.ref 0), some (.int x1), none, none, none, some (.int x5), some (.int x6), some (.int x7), some (.int x8), some (.int ((20 * x1) + x8)), some (.int (gi σ 20 ((20 * x1) + x8).toNatClampNeg)), some (.long q15), none, some (.long q17), none]) (st1 := []) (σ1 := σ) rfl h19 ?_
            refine go_e (L1 := [some (.ref 0), some (.int x1), none, none, none, some (.int x5), some (.int x6), some (.int x7), some (.int x8), none, some (.int (gi σ 20 ((20 * x1) + x8).toNatClampNeg)), none, none, some (.long q17), none]) rfl rfl ?_
            exact fX0_learns_J210_ok _ _ _ _ _ _ _ _ _ hrec105 _ hf
          · rw [if_neg h19] at hf
            refine go_if (t := 210) (f := 189) (L1 := [some (.ref 0), some (.int x1), none, none, none, some (.int x5), some (.int x6), some (.int x7), some (.int x8), some (.int ((20 * x1) + x8)), some (.int (gi σ 20 ((20 * x1) + x8).toNatClampNeg)), some (.long q15), none, some (.long q17), none]) (st1 := []) (σ1 := σ) rfl h19 ?_
            refine go_n 1 (f := (191, [some (.ref 0), some (.int x1), none, none, none, some (.int x5), some (.int x6), some (.int x7), some (.int x8), some (.int ((20 * x1) + x8)), some (.int (gi σ 20 ((20 * x1) + x8).toNatClampNeg)), some (.long q15), none, some (.long q17), none], [.int x6], σ)) rfl ?_
            by_cases h31 : x6 = 0
            · rw [if_pos h31] at hf
              refine go_it (t := 204) (f := 194) (L1 := [some (.ref 0), some (.int x1), none, none, none, some (.int x5), some (.int x6), some (.int x7), some (.int x8), some (.int ((20 * x1) + x8)), some (.int (gi σ 20 ((20 * x1) + x8).toNatClampNeg)), some (.long q15), none, some (.long q17), none]) (st1 := []) (σ1 := σ) rfl h31 ?_
              refine go_e (L1 := [some (.ref 0), some (.int x1), none, none, none, some (.int x5), some (.int x6), some (.int x7), some (.int x8), none, some (.int (gi σ 20 ((20 * x1) + x8).toNatClampNeg)), some (.long q15), none, some (.long q17), none]) rfl rfl ?_
              exact fX0_learns_J204_ok _ _ _ _ _ _ _ _ _ _ hrec105 _ hf
            · rw [if_neg h31] at hf
              refine go_if (t := 204) (f := 194) (L1 := [some (.ref 0), some (.int x1), none, none, none, some (.int x5), some (.int x6), some (.int x7), some (.int x8), some (.int ((20 * x1) + x8)), some (.int (gi σ 20 ((20 * x1) + x8).toNatClampNeg)), some (.long q15), none, some (.long q17), none]) (st1 := []) (σ1 := σ) rfl h31 ?_
              refine go_n 4 (f := (201, [some (.ref 0), some (.int x1), none, none, none, some (.int x5), some (.int x6), some (.int x7), some (.int x8), some (.int ((20 * x1) + x8)), some (.int (gi σ 20 ((20 * x1) + x8).toNatClampNeg)), some (.long q15), none, some (.long q17), none], [.int (lg_cmp q15 (gl σ 0 19))], σ)) rfl ?_
              by_cases h32 : q15 ≤ (gl σ 0 19)
              · rw [if_pos h32] at hf
                refine go_it (t := 210) (f := 204) (L1 := [some (.ref 0), some (.int x1), none, none, none, some (.int x5), some (.int x6), some (.int x7), some (.int x8), some (.int ((20 * x1) + x8)), some (.int (gi σ 20 ((20 * x1) + x8).toNatClampNeg)), some (.long q15), none, some (.long q17), none]) (st1 := []) (σ1 := σ) rfl ((lgc_le q15 (gl σ 0 19)).mpr h32) ?_
                refine go_e (L1 := [some (.ref 0), some (.int x1), none, none, none, some (.int x5), some (.int x6), some (.int x7), some (.int x8), none, some (.int (gi σ 20 ((20 * x1) + x8).toNatClampNeg)), none, none, some (.long q17), none]) rfl rfl ?_
                exact fX0_learns_J210_ok _ _ _ _ _ _ _ _ _ hrec105 _ hf
              · rw [if_neg h32] at hf
                refine go_if (t := 210) (f := 204) (L1 := [some (.ref 0), some (.int x1), none, none, none, some (.int x5), some (.int x6), some (.int x7), some (.int x8), some (.int ((20 * x1) + x8)), some (.int (gi σ 20 ((20 * x1) + x8).toNatClampNeg)), some (.long q15), none, some (.long q17), none]) (st1 := []) (σ1 := σ) rfl (fun q => h32 ((lgc_le q15 (gl σ 0 19)).mp q)) ?_
                refine go_e (L1 := [some (.ref 0), some (.int x1), none, none, none, some (.int x5), some (.int x6), some (.int x7), some (.int x8), none, some (.int (gi σ 20 ((20 * x1) + x8).toNatClampNeg)), some (.long q15), none, some (.long q17), none]) rfl rfl ?_
                exact fX0_learns_J204_ok _ _ _ _ _ _ _ _ _ _ hrec105 _ hf
        · rw [if_neg h14] at hf
          refine go_if (t := 156) (f := 153) (L1 := [some (.ref 0), some (.int x1), none, none, none, some (.int x5), some (.int x6), some (.int x7), some (.int x8), some (.int ((20 * x1) + x8)), some (.int (gi σ 20 ((20 * x1) + x8).toNatClampNeg)), none, none, none, none]) (st1 := []) (σ1 := σ) rfl h14 ?_
          refine go_n 1 (f := (276, [some (.ref 0), some (.int x1), none, none, none, some (.int x5), some (.int x6), some (.int x7), some (.int x8), some (.int ((20 * x1) + x8)), some (.int (gi σ 20 ((20 * x1) + x8).toNatClampNeg)), none, none, none, none], [], σ)) rfl ?_
          refine go_e (L1 := [some (.ref 0), some (.int x1), none, none, none, some (.int x5), some (.int x6), some (.int x7), some (.int x8), none, none, none, none, none, none]) rfl rfl ?_
          exact fX0_learns_J276_ok _ _ _ _ _ _ _ hrec105 _ hf
def fX0_learns (x1 : Int32) (x2 : Int32) (x3 : Int32) (σ : Sg) : Option (Int32 × Sg) :=
  (fX5_looks x3 σ).bind fun q1 => if inb ((20 * x1) + x2) 160 then if (gi q1 36 ((20 * x1) + x2).toNatClampNeg) < 2 then if inb ((20 * x1) + x2) 160 then if (gi q1 20 ((20 * x1) + x2).toNatClampNeg) ≠ (-1) then lp (fX0_learns_L105 x1 (gi q1 20 ((20 * x1) + x2).toNatClampNeg) ) N0 (0, 0, 0, (wl (wl q1 0 19 (-1000)) 0 20 1000)) else some (0, q1) else none else (fX5_end ((20 * x1) + x2) 0 (-1) q1).bind fun q33 => (fX5_end ((20 * x1) + x2) 1 (-1) (wl q1 0 19 q33)).bind fun q35 => some (1, (wl (wl q1 0 19 q33) 0 20 q35)) else none
set_option maxHeartbeats 1500000 in
theorem fX0_learns_ok (x1 : Int32) (x2 : Int32) (x3 : Int32) (σ : Sg) (r : (Int32 × Sg)) (hf : fX0_learns x1 x2 x3 σ = some r) : Cl true 3245 5173 [.ref 0, .int x1, .int x2, .int x3] σ (.inl (some (.int (r).1)), (r).2) := by
  refine ⟨iX0_learns, rfl, Nat.le_of_ble_eq_true rfl, Nat.le_of_ble_eq_true rfl, ?_⟩
  show Go true 3245 iX0_learns (0, [some (.ref 0), some (.int x1), some (.int x2), some (.int x3), none, none, none, none, none, none, none, none, none, none, none], [], σ) (.inl (some (.int (r).1)), (r).2)
  unfold fX0_learns at hf
  refine go_n 3 (f := (5, [some (.ref 0), some (.int x1), some (.int x2), some (.int x3), none, none, none, none, none, none, none, none, none, none, none], [.int x3, .ref 35], σ)) rfl ?_
  obtain ⟨q1, h2, hf⟩ := bnd hf
  refine go_c (mid := 11521) (args := [.ref 35, .int x3]) (pc := 8) (L := [some (.ref 0), some (.int x1), some (.int x2), some (.int x3), none, none, none, none, none, none, none, none, none, none, none]) (st := []) (σ := σ) rfl ((fX5_looks_ok _ _ q1 h2).deep (Nat.le_of_ble_eq_true rfl)) ?_
  refine go_n 10 (f := (25, [some (.ref 0), some (.int x1), some (.int x2), some (.int x3), some (.int ((20 * x1) + x2)), none, none, none, none, none, none, none, none, none, none], [.int ((20 * x1) + x2), .ref 36], q1)) rfl ?_
  obtain ⟨h3, hf⟩ := grd hf
  refine go_iald rfl rfl rfl h3 ?_
  refine go_n 1 (f := (27, [some (.ref 0), some (.int x1), some (.int x2), some (.int x3), some (.int ((20 * x1) + x2)), none, none, none, none, none, none, none, none, none, none], [.int 2, .int (gi q1 36 ((20 * x1) + x2).toNatClampNeg)], q1)) rfl ?_
  by_cases h4 : (gi q1 36 ((20 * x1) + x2).toNatClampNeg) < 2
  · rw [if_pos h4] at hf
    refine go_it (t := 62) (f := 30) (L1 := [some (.ref 0), some (.int x1), some (.int x2), some (.int x3), some (.int ((20 * x1) + x2)), none, none, none, none, none, none, none, none, none, none]) (st1 := []) (σ1 := q1) rfl h4 ?_
    refine go_n 4 (f := (71, [some (.ref 0), some (.int x1), some (.int x2), some (.int x3), some (.int ((20 * x1) + x2)), none, none, none, none, none, none, none, none, none, none], [.int ((20 * x1) + x2), .ref 20], q1)) rfl ?_
    obtain ⟨h5, hf⟩ := grd hf
    refine go_iald rfl rfl rfl h5 ?_
    refine go_n 3 (f := (77, [some (.ref 0), some (.int x1), some (.int x2), some (.int x3), some (.int ((20 * x1) + x2)), some (.int (gi q1 20 ((20 * x1) + x2).toNatClampNeg)), none, none, none, none, none, none, none, none, none], [.int (-1), .int (gi q1 20 ((20 * x1) + x2).toNatClampNeg)], q1)) rfl ?_
    by_cases h6 : (gi q1 20 ((20 * x1) + x2).toNatClampNeg) ≠ (-1)
    · rw [if_pos h6] at hf
      refine go_it (t := 82) (f := 80) (L1 := [some (.ref 0), some (.int x1), some (.int x2), some (.int x3), some (.int ((20 * x1) + x2)), some (.int (gi q1 20 ((20 * x1) + x2).toNatClampNeg)), none, none, none, none, none, none, none, none, none]) (st1 := []) (σ1 := q1) rfl h6 ?_
      refine go_n 4 (f := (88, [some (.ref 0), some (.int x1), some (.int x2), some (.int x3), some (.int ((20 * x1) + x2)), some (.int (gi q1 20 ((20 * x1) + x2).toNatClampNeg)), some (.int 0), some (.int 0), none, none, none, none, none, none, none], [], q1)) rfl ?_
      refine go_n 6 (f := (102, [some (.ref 0), some (.int x1), some (.int x2), some (.int x3), some (.int ((20 * x1) + x2)), some (.int (gi q1 20 ((20 * x1) + x2).toNatClampNeg)), some (.int 0), some (.int 0), none, none, none, none, none, none, none], [], (wl (wl q1 0 19 (-1000)) 0 20 1000))) rfl ?_
      refine go_n 2 (f := (105, [some (.ref 0), some (.int x1), some (.int x2), some (.int x3), some (.int ((20 * x1) + x2)), some (.int (gi q1 20 ((20 * x1) + x2).toNatClampNeg)), some (.int 0), some (.int 0), some (.int 0), none, none, none, none, none, none], [], (wl (wl q1 0 19 (-1000)) 0 20 1000))) rfl ?_
      refine go_e (L1 := [some (.ref 0), some (.int x1), none, none, none, some (.int (gi q1 20 ((20 * x1) + x2).toNatClampNeg)), some (.int 0), some (.int 0), some (.int 0), none, none, none, none, none, none]) rfl rfl ?_
      exact fX0_learns_L105_ok _ _   N0 _ _ _ _ _ hf
    · rw [if_neg h6] at hf
      refine go_if (t := 82) (f := 80) (L1 := [some (.ref 0), some (.int x1), some (.int x2), some (.int x3), some (.int ((20 * x1) + x2)), some (.int (gi q1 20 ((20 * x1) + x2).toNatClampNeg)), none, none, none, none, none, none, none, none, none]) (st1 := []) (σ1 := q1) rfl h6 ?_
      refine go_n 1 (f := (81, [some (.ref 0), some (.int x1), some (.int x2), some (.int x3), some (.int ((20 * x1) + x2)), some (.int (gi q1 20 ((20 * x1) + x2).toNatClampNeg)), none, none, none, none, none, none, none, none, none], [.int 0], q1)) rfl ?_
      cases hf
      exact go_r rfl
  · rw [if_neg h4] at hf
    refine go_if (t := 62) (f := 30) (L1 := [some (.ref 0), some (.int x1), some (.int x2), some (.int x3), some (.int ((20 * x1) + x2)), none, none, none, none, none, none, none, none, none, none]) (st1 := []) (σ1 := q1) rfl h4 ?_
    refine go_n 6 (f := (39, [some (.ref 0), some (.int x1), some (.int x2), some (.int x3), some (.int ((20 * x1) + x2)), none, none, none, none, none, none, none, none, none, none], [.int (-1), .int 0, .int ((20 * x1) + x2), .ref 35, .ref 0], q1)) rfl ?_
    obtain ⟨q33, h34, hf⟩ := bnd hf
    refine go_c (mid := 11524) (args := [.ref 35, .int ((20 * x1) + x2), .int 0, .int (-1)]) (pc := 42) (L := [some (.ref 0), some (.int x1), some (.int x2), some (.int x3), some (.int ((20 * x1) + x2)), none, none, none, none, none, none, none, none, none, none]) (st := [.ref 0]) (σ := q1) rfl ((fX5_end_ok _ _ _ _ q33 h34).deep (Nat.le_of_ble_eq_true rfl)) ?_
    refine go_n 7 (f := (54, [some (.ref 0), some (.int x1), some (.int x2), some (.int x3), some (.int ((20 * x1) + x2)), none, none, none, none, none, none, none, none, none, none], [.int (-1), .int 1, .int ((20 * x1) + x2), .ref 35, .ref 0], (wl q1 0 19 q33))) rfl ?_
    obtain ⟨q35, h36, hf⟩ := bnd hf
    refine go_c (mid := 11524) (args := [.ref 35, .int ((20 * x1) + x2), .int 1, .int (-1)]) (pc := 57) (L := [some (.ref 0), some (.int x1), some (.int x2), some (.int x3), some (.int ((20 * x1) + x2)), none, none, none, none, none, none, none, none, none, none]) (st := [.ref 0]) (σ := (wl q1 0 19 q33)) rfl ((fX5_end_ok _ _ _ _ q35 h36).deep (Nat.le_of_ble_eq_true rfl)) ?_
    refine go_n 2 (f := (61, [some (.ref 0), some (.int x1), some (.int x2), some (.int x3), some (.int ((20 * x1) + x2)), none, none, none, none, none, none, none, none, none, none], [.int 1], (wl (wl q1 0 19 q33) 0 20 q35))) rfl ?_
    cases hf
    exact go_r rfl
