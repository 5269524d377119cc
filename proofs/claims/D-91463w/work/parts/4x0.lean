set_option maxRecDepth 100000
/-! java/util/AbstractCollection.<init>()V -/
def fJ0_init (x0 : Nat) : Option Unit :=
  some ()
set_option maxHeartbeats 1500000 in
theorem fJ0_init_ok (x0 : Nat) (σ : Sg) (r : Unit) (hf : fJ0_init x0 = some r) : Cl true 0 0 [.ref x0] σ (.inl (none), σ) := by
  refine ⟨iJ0_init, rfl, Nat.le_of_ble_eq_true rfl, Nat.le_of_ble_eq_true rfl, ?_⟩
  show Go true 0 iJ0_init (0, [some (.ref x0)], [], σ) (.inl (none), σ)
  unfold fJ0_init at hf
  refine go_n 1 (f := (1, [some (.ref x0)], [.ref x0], σ)) rfl ?_
  refine go_b (mid := 20000) (args := [.ref x0]) (pc := 4) (L := [some (.ref x0)]) (st := []) (σ := σ) rfl (by decide) rfl ?_
  cases hf
  exact go_r rfl
/-! java/util/AbstractList.<init>()V -/
def fJ1_init (x0 : Nat) (σ : Sg) : Option Sg :=
  (fJ0_init x0).bind fun q1 => if [16].elem (kk σ x0) = true then some (wi σ x0 0 0) else none
set_option maxHeartbeats 1500000 in
theorem fJ1_init_ok (x0 : Nat) (σ : Sg) (r : Sg) (hf : fJ1_init x0 σ = some r) : Cl true 1 256 [.ref x0] σ (.inl none, r) := by
  refine ⟨iJ1_init, rfl, Nat.le_of_ble_eq_true rfl, Nat.le_of_ble_eq_true rfl, ?_⟩
  show Go true 1 iJ1_init (0, [some (.ref x0)], [], σ) (.inl none, r)
  unfold fJ1_init at hf
  refine go_n 1 (f := (1, [some (.ref x0)], [.ref x0], σ)) rfl ?_
  obtain ⟨q1, h2, hf⟩ := bnd hf
  refine go_c (mid := 0) (args := [.ref x0]) (pc := 4) (L := [some (.ref x0)]) (st := []) (σ := σ) rfl ((fJ0_init_ok _ _ q1 h2).deep (Nat.le_of_ble_eq_true rfl)) ?_
  refine go_n 2 (f := (6, [some (.ref x0)], [.int 0, .ref x0], σ)) rfl ?_
  obtain ⟨h3, hf⟩ := grd hf
  refine go_puti rfl rfl rfl h3 rfl rfl rfl ?_
  cases hf
  exact go_r rfl
/-! jdk/internal/util/Preconditions.checkIndex(IILjava/util/function/BiFunction;)I -/
def fJ13_checkIndex (x0 : Int32) (x1 : Int32) (σ : Sg) : Option Int32 :=
  if x0 < 0 then none else if x0 < x1 then some x0 else none
set_option maxHeartbeats 1500000 in
theorem fJ13_checkIndex_ok (x0 : Int32) (x1 : Int32) (σ : Sg) (r : Int32) (hf : fJ13_checkIndex x0 x1 σ = some r) : Cl true 0 1280 [.int x0, .int x1, .null] σ (.inl (some (.int r)), σ) := by
  refine ⟨iJ13_checkIndex, rfl, Nat.le_of_ble_eq_true rfl, Nat.le_of_ble_eq_true rfl, ?_⟩
  show Go true 0 iJ13_checkIndex (0, [some (.int x0), some (.int x1), some (.null)], [], σ) (.inl (some (.int r)), σ)
  unfold fJ13_checkIndex at hf
  refine go_n 1 (f := (1, [some (.int x0), some (.int x1), some (.null)], [.int x0], σ)) rfl ?_
  by_cases h1 : x0 < 0
  · rw [if_pos h1] at hf
    refine go_it (t := 9) (f := 4) (L1 := [some (.int x0), some (.int x1), some (.null)]) (st1 := []) (σ1 := σ) rfl h1 ?_
    cases hf
  · rw [if_neg h1] at hf
    refine go_if (t := 9) (f := 4) (L1 := [some (.int x0), some (.int x1), some (.null)]) (st1 := []) (σ1 := σ) rfl h1 ?_
    refine go_n 2 (f := (6, [some (.int x0), some (.int x1), some (.null)], [.int x1, .int x0], σ)) rfl ?_
    by_cases h2 : x0 < x1
    · rw [if_pos h2] at hf
      refine go_it (t := 16) (f := 9) (L1 := [some (.int x0), some (.int x1), some (.null)]) (st1 := []) (σ1 := σ) rfl h2 ?_
      refine go_n 1 (f := (17, [some (.int x0), some (.int x1), some (.null)], [.int x0], σ)) rfl ?_
      cases hf
      exact go_r rfl
    · rw [if_neg h2] at hf
      refine go_if (t := 16) (f := 9) (L1 := [some (.int x0), some (.int x1), some (.null)]) (st1 := []) (σ1 := σ) rfl h2 ?_
      cases hf
/-! java/lang/Integer.bitCount(I)I -/
def fJ17_bitCount (x0 : Int32) : Option Int32 :=
  some ((((((((x0 - ((x0.toUInt32 >>> ((1 : Int32).toUInt32 &&& Int32.toUInt32 31)).toInt32 &&& 1431655765)) &&& 858993459) + (((x0 - ((x0.toUInt32 >>> ((1 : Int32).toUInt32 &&& Int32.toUInt32 31)).toInt32 &&& 1431655765)).toUInt32 >>> ((2 : Int32).toUInt32 &&& Int32.toUInt32 31)).toInt32 &&& 858993459)) + ((((x0 - ((x0.toUInt32 >>> ((1 : Int32).toUInt32 &&& Int32.toUInt32 31)).toInt32 &&& 1431655765)) &&& 858993459) + (((x0 - ((x0.toUInt32 >>> ((1 : Int32).toUInt32 &&& Int32.toUInt32 31)).toInt32 &&& 1431655765)).toUInt32 >>> ((2 : Int32).toUInt32 &&& Int32.toUInt32 31)).toInt32 &&& 858993459)).toUInt32 >>> ((4 : Int32).toUInt32 &&& Int32.toUInt32 31)).toInt32) &&& 252645135) + ((((((x0 - ((x0.toUInt32 >>> ((1 : Int32).toUInt32 &&& Int32.toUInt32 31)).toInt32 &&& 1431655765)) &&& 858993459) + (((x0 - ((x0.toUInt32 >>> ((1 : Int32).toUInt32 &&& Int32.toUInt32 31)).toInt32 &&& 1431655765)).toUInt32 >>> ((2 : Int32).toUInt32 &&& Int32.toUInt32 31)).toInt32 &&& 858993459)) + ((((x0 - ((x0.toUInt32 >>> ((1 : Int32).toUInt32 &&& Int32.toUInt32 31)).toInt32 &&& 1431655765)) &&& 858993459) + (((x0 - ((x0.toUInt32 >>> ((1 : Int32).toUInt32 &&& Int32.toUInt32 31)).toInt32 &&& 1431655765)).toUInt32 >>> ((2 : Int32).toUInt32 &&& Int32.toUInt32 31)).toInt32 &&& 858993459)).toUInt32 >>> ((4 : Int32).toUInt32 &&& Int32.toUInt32 31)).toInt32) &&& 252645135).toUInt32 >>> ((8 : Int32).toUInt32 &&& Int32.toUInt32 31)).toInt32) + (((((((x0 - ((x0.toUInt32 >>> ((1 : Int32).toUInt32 &&& Int32.toUInt32 31)).toInt32 &&& 1431655765)) &&& 858993459) + (((x0 - ((x0.toUInt32 >>> ((1 : Int32).toUInt32 &&& Int32.toUInt32 31)).toInt32 &&& 1431655765)).toUInt32 >>> ((2 : Int32).toUInt32 &&& Int32.toUInt32 31)).toInt32 &&& 858993459)) + ((((x0 - ((x0.toUInt32 >>> ((1 : Int32).toUInt32 &&& Int32.toUInt32 31)).toInt32 &&& 1431655765)) &&& 858993459) + (((x0 - ((x0.toUInt32 >>> ((1 : Int32).toUInt32 &&& Int32.toUInt32 31)).toInt32 &&& 1431655765)).toUInt32 >>> ((2 : Int32).toUInt32 &&& Int32.toUInt32 31)).toInt32 &&& 858993459)).toUInt32 >>> ((4 : Int32).toUInt32 &&& Int32.toUInt32 31)).toInt32) &&& 252645135) + ((((((x0 - ((x0.toUInt32 >>> ((1 : Int32).toUInt32 &&& Int32.toUInt32 31)).toInt32 &&& 1431655765)) &&& 858993459) + (((x0 - ((x0.toUInt32 >>> ((1 : Int32).toUInt32 &&& Int32.toUInt32 31)).toInt32 &&& 1431655765)).toUInt32 >>> ((2 : Int32).toUInt32 &&& Int32.toUInt32 31)).toInt32 &&& 858993459)) + ((((x0 - ((x0.toUInt32 >>> ((1 : Int32).toUInt32 &&& Int32.toUInt32 31)).toInt32 &&& 1431655765)) &&& 858993459) + (((x0 - ((x0.toUInt32 >>> ((1 : Int32).toUInt32 &&& Int32.toUInt32 31)).toInt32 &&& 1431655765)).toUInt32 >>> ((2 : Int32).toUInt32 &&& Int32.toUInt32 31)).toInt32 &&& 858993459)).toUInt32 >>> ((4 : Int32).toUInt32 &&& Int32.toUInt32 31)).toInt32) &&& 252645135).toUInt32 >>> ((8 : Int32).toUInt32 &&& Int32.toUInt32 31)).toInt32).toUInt32 >>> ((16 : Int32).toUInt32 &&& Int32.toUInt32 31)).toInt32) &&& 63)
set_option maxHeartbeats 1500000 in
theorem fJ17_bitCount_ok (x0 : Int32) (σ : Sg) (r : Int32) (hf : fJ17_bitCount x0 = some r) : Cl true 0 2304 [.int x0] σ (.inl (some (.int r)), σ) := by
  refine ⟨iJ17_bitCount, rfl, Nat.le_of_ble_eq_true rfl, Nat.le_of_ble_eq_true rfl, ?_⟩
  show Go true 0 iJ17_bitCount (0, [some (.int x0)], [], σ) (.inl (some (.int r)), σ)
  unfold fJ17_bitCount at hf
  refine go_n 10 (f := (14, [some (.int (x0 - ((x0.toUInt32 >>> ((1 : Int32).toUInt32 &&& Int32.toUInt32 31)).toInt32 &&& 1431655765)))], [.int 858993459, .int (x0 - ((x0.toUInt32 >>> ((1 : Int32).toUInt32 &&& Int32.toUInt32 31)).toInt32 &&& 1431655765))], σ)) rfl ?_
  refine go_n 10 (f := (26, [some (.int (((x0 - ((x0.toUInt32 >>> ((1 : Int32).toUInt32 &&& Int32.toUInt32 31)).toInt32 &&& 1431655765)) &&& 858993459) + (((x0 - ((x0.toUInt32 >>> ((1 : Int32).toUInt32 &&& Int32.toUInt32 31)).toInt32 &&& 1431655765)).toUInt32 >>> ((2 : Int32).toUInt32 &&& Int32.toUInt32 31)).toInt32 &&& 858993459)))], [.int (((x0 - ((x0.toUInt32 >>> ((1 : Int32).toUInt32 &&& Int32.toUInt32 31)).toInt32 &&& 1431655765)) &&& 858993459) + (((x0 - ((x0.toUInt32 >>> ((1 : Int32).toUInt32 &&& Int32.toUInt32 31)).toInt32 &&& 1431655765)).toUInt32 >>> ((2 : Int32).toUInt32 &&& Int32.toUInt32 31)).toInt32 &&& 858993459)), .int (((x0 - ((x0.toUInt32 >>> ((1 : Int32).toUInt32 &&& Int32.toUInt32 31)).toInt32 &&& 1431655765)) &&& 858993459) + (((x0 - ((x0.toUInt32 >>> ((1 : Int32).toUInt32 &&& Int32.toUInt32 31)).toInt32 &&& 1431655765)).toUInt32 >>> ((2 : Int32).toUInt32 &&& Int32.toUInt32 31)).toInt32 &&& 858993459))], σ)) rfl ?_
  refine go_n 10 (f := (39, [some (.int (((((x0 - ((x0.toUInt32 >>> ((1 : Int32).toUInt32 &&& Int32.toUInt32 31)).toInt32 &&& 1431655765)) &&& 858993459) + (((x0 - ((x0.toUInt32 >>> ((1 : Int32).toUInt32 &&& Int32.toUInt32 31)).toInt32 &&& 1431655765)).toUInt32 >>> ((2 : Int32).toUInt32 &&& Int32.toUInt32 31)).toInt32 &&& 858993459)) + ((((x0 - ((x0.toUInt32 >>> ((1 : Int32).toUInt32 &&& Int32.toUInt32 31)).toInt32 &&& 1431655765)) &&& 858993459) + (((x0 - ((x0.toUInt32 >>> ((1 : Int32).toUInt32 &&& Int32.toUInt32 31)).toInt32 &&& 1431655765)).toUInt32 >>> ((2 : Int32).toUInt32 &&& Int32.toUInt32 31)).toInt32 &&& 858993459)).toUInt32 >>> ((4 : Int32).toUInt32 &&& Int32.toUInt32 31)).toInt32) &&& 252645135))], [.int ((((((x0 - ((x0.toUInt32 >>> ((1 : Int32).toUInt32 &&& Int32.toUInt32 31)).toInt32 &&& 1431655765)) &&& 858993459) + (((x0 - ((x0.toUInt32 >>> ((1 : Int32).toUInt32 &&& Int32.toUInt32 31)).toInt32 &&& 1431655765)).toUInt32 >>> ((2 : Int32).toUInt32 &&& Int32.toUInt32 31)).toInt32 &&& 858993459)) + ((((x0 - ((x0.toUInt32 >>> ((1 : Int32).toUInt32 &&& Int32.toUInt32 31)).toInt32 &&& 1431655765)) &&& 858993459) + (((x0 - ((x0.toUInt32 >>> ((1 : Int32).toUInt32 &&& Int32.toUInt32 31)).toInt32 &&& 1431655765)).toUInt32 >>> ((2 : Int32).toUInt32 &&& Int32.toUInt32 31)).toInt32 &&& 858993459)).toUInt32 >>> ((4 : Int32).toUInt32 &&& Int32.toUInt32 31)).toInt32) &&& 252645135).toUInt32 >>> ((8 : Int32).toUInt32 &&& Int32.toUInt32 31)).toInt32, .int (((((x0 - ((x0.toUInt32 >>> ((1 : Int32).toUInt32 &&& Int32.toUInt32 31)).toInt32 &&& 1431655765)) &&& 858993459) + (((x0 - ((x0.toUInt32 >>> ((1 : Int32).toUInt32 &&& Int32.toUInt32 31)).toInt32 &&& 1431655765)).toUInt32 >>> ((2 : Int32).toUInt32 &&& Int32.toUInt32 31)).toInt32 &&& 858993459)) + ((((x0 - ((x0.toUInt32 >>> ((1 : Int32).toUInt32 &&& Int32.toUInt32 31)).toInt32 &&& 1431655765)) &&& 858993459) + (((x0 - ((x0.toUInt32 >>> ((1 : Int32).toUInt32 &&& Int32.toUInt32 31)).toInt32 &&& 1431655765)).toUInt32 >>> ((2 : Int32).toUInt32 &&& Int32.toUInt32 31)).toInt32 &&& 858993459)).toUInt32 >>> ((4 : Int32).toUInt32 &&& Int32.toUInt32 31)).toInt32) &&& 252645135)], σ)) rfl ?_
  refine go_n 8 (f := (48, [some (.int (((((((x0 - ((x0.toUInt32 >>> ((1 : Int32).toUInt32 &&& Int32.toUInt32 31)).toInt32 &&& 1431655765)) &&& 858993459) + (((x0 - ((x0.toUInt32 >>> ((1 : Int32).toUInt32 &&& Int32.toUInt32 31)).toInt32 &&& 1431655765)).toUInt32 >>> ((2 : Int32).toUInt32 &&& Int32.toUInt32 31)).toInt32 &&& 858993459)) + ((((x0 - ((x0.toUInt32 >>> ((1 : Int32).toUInt32 &&& Int32.toUInt32 31)).toInt32 &&& 1431655765)) &&& 858993459) + (((x0 - ((x0.toUInt32 >>> ((1 : Int32).toUInt32 &&& Int32.toUInt32 31)).toInt32 &&& 1431655765)).toUInt32 >>> ((2 : Int32).toUInt32 &&& Int32.toUInt32 31)).toInt32 &&& 858993459)).toUInt32 >>> ((4 : Int32).toUInt32 &&& Int32.toUInt32 31)).toInt32) &&& 252645135) + ((((((x0 - ((x0.toUInt32 >>> ((1 : Int32).toUInt32 &&& Int32.toUInt32 31)).toInt32 &&& 1431655765)) &&& 858993459) + (((x0 - ((x0.toUInt32 >>> ((1 : Int32).toUInt32 &&& Int32.toUInt32 31)).toInt32 &&& 1431655765)).toUInt32 >>> ((2 : Int32).toUInt32 &&& Int32.toUInt32 31)).toInt32 &&& 858993459)) + ((((x0 - ((x0.toUInt32 >>> ((1 : Int32).toUInt32 &&& Int32.toUInt32 31)).toInt32 &&& 1431655765)) &&& 858993459) + (((x0 - ((x0.toUInt32 >>> ((1 : Int32).toUInt32 &&& Int32.toUInt32 31)).toInt32 &&& 1431655765)).toUInt32 >>> ((2 : Int32).toUInt32 &&& Int32.toUInt32 31)).toInt32 &&& 858993459)).toUInt32 >>> ((4 : Int32).toUInt32 &&& Int32.toUInt32 31)).toInt32) &&& 252645135).toUInt32 >>> ((8 : Int32).toUInt32 &&& Int32.toUInt32 31)).toInt32) + (((((((x0 - ((x0.toUInt32 >>> ((1 : Int32).toUInt32 &&& Int32.toUInt32 31)).toInt32 &&& 1431655765)) &&& 858993459) + (((x0 - ((x0.toUInt32 >>> ((1 : Int32).toUInt32 &&& Int32.toUInt32 31)).toInt32 &&& 1431655765)).toUInt32 >>> ((2 : Int32).toUInt32 &&& Int32.toUInt32 31)).toInt32 &&& 858993459)) + ((((x0 - ((x0.toUInt32 >>> ((1 : Int32).toUInt32 &&& Int32.toUInt32 31)).toInt32 &&& 1431655765)) &&& 858993459) + (((x0 - ((x0.toUInt32 >>> ((1 : Int32).toUInt32 &&& Int32.toUInt32 31)).toInt32 &&& 1431655765)).toUInt32 >>> ((2 : Int32).toUInt32 &&& Int32.toUInt32 31)).toInt32 &&& 858993459)).toUInt32 >>> ((4 : Int32).toUInt32 &&& Int32.toUInt32 31)).toInt32) &&& 252645135) + ((((((x0 - ((x0.toUInt32 >>> ((1 : Int32).toUInt32 &&& Int32.toUInt32 31)).toInt32 &&& 1431655765)) &&& 858993459) + (((x0 - ((x0.toUInt32 >>> ((1 : Int32).toUInt32 &&& Int32.toUInt32 31)).toInt32 &&& 1431655765)).toUInt32 >>> ((2 : Int32).toUInt32 &&& Int32.toUInt32 31)).toInt32 &&& 858993459)) + ((((x0 - ((x0.toUInt32 >>> ((1 : Int32).toUInt32 &&& Int32.toUInt32 31)).toInt32 &&& 1431655765)) &&& 858993459) + (((x0 - ((x0.toUInt32 >>> ((1 : Int32).toUInt32 &&& Int32.toUInt32 31)).toInt32 &&& 1431655765)).toUInt32 >>> ((2 : Int32).toUInt32 &&& Int32.toUInt32 31)).toInt32 &&& 858993459)).toUInt32 >>> ((4 : Int32).toUInt32 &&& Int32.toUInt32 31)).toInt32) &&& 252645135).toUInt32 >>> ((8 : Int32).toUInt32 &&& Int32.toUInt32 31)).toInt32).toUInt32 >>> ((16 : Int32).toUInt32 &&& Int32.toUInt32 31)).toInt32))], [], σ)) rfl ?_
  refine go_n 3 (f := (52, [some (.int (((((((x0 - ((x0.toUInt32 >>> ((1 : Int32).toUInt32 &&& Int32.toUInt32 31)).toInt32 &&& 1431655765)) &&& 858993459) + (((x0 - ((x0.toUInt32 >>> ((1 : Int32).toUInt32 &&& Int32.toUInt32 31)).toInt32 &&& 1431655765)).toUInt32 >>> ((2 : Int32).toUInt32 &&& Int32.toUInt32 31)).toInt32 &&& 858993459)) + ((((x0 - ((x0.toUInt32 >>> ((1 : Int32).toUInt32 &&& Int32.toUInt32 31)).toInt32 &&& 1431655765)) &&& 858993459) + (((x0 - ((x0.toUInt32 >>> ((1 : Int32).toUInt32 &&& Int32.toUInt32 31)).toInt32 &&& 1431655765)).toUInt32 >>> ((2 : Int32).toUInt32 &&& Int32.toUInt32 31)).toInt32 &&& 858993459)).toUInt32 >>> ((4 : Int32).toUInt32 &&& Int32.toUInt32 31)).toInt32) &&& 252645135) + ((((((x0 - ((x0.toUInt32 >>> ((1 : Int32).toUInt32 &&& Int32.toUInt32 31)).toInt32 &&& 1431655765)) &&& 858993459) + (((x0 - ((x0.toUInt32 >>> ((1 : Int32).toUInt32 &&& Int32.toUInt32 31)).toInt32 &&& 1431655765)).toUInt32 >>> ((2 : Int32).toUInt32 &&& Int32.toUInt32 31)).toInt32 &&& 858993459)) + ((((x0 - ((x0.toUInt32 >>> ((1 : Int32).toUInt32 &&& Int32.toUInt32 31)).toInt32 &&& 1431655765)) &&& 858993459) + (((x0 - ((x0.toUInt32 >>> ((1 : Int32).toUInt32 &&& Int32.toUInt32 31)).toInt32 &&& 1431655765)).toUInt32 >>> ((2 : Int32).toUInt32 &&& Int32.toUInt32 31)).toInt32 &&& 858993459)).toUInt32 >>> ((4 : Int32).toUInt32 &&& Int32.toUInt32 31)).toInt32) &&& 252645135).toUInt32 >>> ((8 : Int32).toUInt32 &&& Int32.toUInt32 31)).toInt32) + (((((((x0 - ((x0.toUInt32 >>> ((1 : Int32).toUInt32 &&& Int32.toUInt32 31)).toInt32 &&& 1431655765)) &&& 858993459) + (((x0 - ((x0.toUInt32 >>> ((1 : Int32).toUInt32 &&& Int32.toUInt32 31)).toInt32 &&& 1431655765)).toUInt32 >>> ((2 : Int32).toUInt32 &&& Int32.toUInt32 31)).toInt32 &&& 858993459)) + ((((x0 - ((x0.toUInt32 >>> ((1 : Int32).toUInt32 &&& Int32.toUInt32 31)).toInt32 &&& 1431655765)) &&& 858993459) + (((x0 - ((x0.toUInt32 >>> ((1 : Int32).toUInt32 &&& Int32.toUInt32 31)).toInt32 &&& 1431655765)).toUInt32 >>> ((2 : Int32).toUInt32 &&& Int32.toUInt32 31)).toInt32 &&& 858993459)).toUInt32 >>> ((4 : Int32).toUInt32 &&& Int32.toUInt32 31)).toInt32) &&& 252645135) + ((((((x0 - ((x0.toUInt32 >>> ((1 : Int32).toUInt32 &&& Int32.toUInt32 31)).toInt32 &&& 1431655765)) &&& 858993459) + (((x0 - ((x0.toUInt32 >>> ((1 : Int32).toUInt32 &&& Int32.toUInt32 31)).toInt32 &&& 1431655765)).toUInt32 >>> ((2 : Int32).toUInt32 &&& Int32.toUInt32 31)).toInt32 &&& 858993459)) + ((((x0 - ((x0.toUInt32 >>> ((1 : Int32).toUInt32 &&& Int32.toUInt32 31)).toInt32 &&& 1431655765)) &&& 858993459) + (((x0 - ((x0.toUInt32 >>> ((1 : Int32).toUInt32 &&& Int32.toUInt32 31)).toInt32 &&& 1431655765)).toUInt32 >>> ((2 : Int32).toUInt32 &&& Int32.toUInt32 31)).toInt32 &&& 858993459)).toUInt32 >>> ((4 : Int32).toUInt32 &&& Int32.toUInt32 31)).toInt32) &&& 252645135).toUInt32 >>> ((8 : Int32).toUInt32 &&& Int32.toUInt32 31)).toInt32).toUInt32 >>> ((16 : Int32).toUInt32 &&& Int32.toUInt32 31)).toInt32))], [.int ((((((((x0 - ((x0.toUInt32 >>> ((1 : Int32).toUInt32 &&& Int32.toUInt32 31)).toInt32 &&& 1431655765)) &&& 858993459) + (((x0 - ((x0.toUInt32 >>> ((1 : Int32).toUInt32 &&& Int32.toUInt32 31)).toInt32 &&& 1431655765)).toUInt32 >>> ((2 : Int32).toUInt32 &&& Int32.toUInt32 31)).toInt32 &&& 858993459)) + ((((x0 - ((x0.toUInt32 >>> ((1 : Int32).toUInt32 &&& Int32.toUInt32 31)).toInt32 &&& 1431655765)) &&& 858993459) + (((x0 - ((x0.toUInt32 >>> ((1 : Int32).toUInt32 &&& Int32.toUInt32 31)).toInt32 &&& 1431655765)).toUInt32 >>> ((2 : Int32).toUInt32 &&& Int32.toUInt32 31)).toInt32 &&& 858993459)).toUInt32 >>> ((4 : Int32).toUInt32 &&& Int32.toUInt32 31)).toInt32) &&& 252645135) + ((((((x0 - ((x0.toUInt32 >>> ((1 : Int32).toUInt32 &&& Int32.toUInt32 31)).toInt32 &&& 1431655765)) &&& 858993459) + (((x0 - ((x0.toUInt32 >>> ((1 : Int32).toUInt32 &&& Int32.toUInt32 31)).toInt32 &&& 1431655765)).toUInt32 >>> ((2 : Int32).toUInt32 &&& Int32.toUInt32 31)).toInt32 &&& 858993459)) + ((((x0 - ((x0.toUInt32 >>> ((1 : Int32).toUInt32 &&& Int32.toUInt32 31)).toInt32 &&& 1431655765)) &&& 858993459) + (((x0 - ((x0.toUInt32 >>> ((1 : Int32).toUInt32 &&& Int32.toUInt32 31)).toInt32 &&& 1431655765)).toUInt32 >>> ((2 : Int32).toUInt32 &&& Int32.toUInt32 31)).toInt32 &&& 858993459)).toUInt32 >>> ((4 : Int32).toUInt32 &&& Int32.toUInt32 31)).toInt32) &&& 252645135).toUInt32 >>> ((8 : Int32).toUInt32 &&& Int32.toUInt32 31)).toInt32) + (((((((x0 - ((x0.toUInt32 >>> ((1 : Int32).toUInt32 &&& Int32.toUInt32 31)).toInt32 &&& 1431655765)) &&& 858993459) + (((x0 - ((x0.toUInt32 >>> ((1 : Int32).toUInt32 &&& Int32.toUInt32 31)).toInt32 &&& 1431655765)).toUInt32 >>> ((2 : Int32).toUInt32 &&& Int32.toUInt32 31)).toInt32 &&& 858993459)) + ((((x0 - ((x0.toUInt32 >>> ((1 : Int32).toUInt32 &&& Int32.toUInt32 31)).toInt32 &&& 1431655765)) &&& 858993459) + (((x0 - ((x0.toUInt32 >>> ((1 : Int32).toUInt32 &&& Int32.toUInt32 31)).toInt32 &&& 1431655765)).toUInt32 >>> ((2 : Int32).toUInt32 &&& Int32.toUInt32 31)).toInt32 &&& 858993459)).toUInt32 >>> ((4 : Int32).toUInt32 &&& Int32.toUInt32 31)).toInt32) &&& 252645135) + ((((((x0 - ((x0.toUInt32 >>> ((1 : Int32).toUInt32 &&& Int32.toUInt32 31)).toInt32 &&& 1431655765)) &&& 858993459) + (((x0 - ((x0.toUInt32 >>> ((1 : Int32).toUInt32 &&& Int32.toUInt32 31)).toInt32 &&& 1431655765)).toUInt32 >>> ((2 : Int32).toUInt32 &&& Int32.toUInt32 31)).toInt32 &&& 858993459)) + ((((x0 - ((x0.toUInt32 >>> ((1 : Int32).toUInt32 &&& Int32.toUInt32 31)).toInt32 &&& 1431655765)) &&& 858993459) + (((x0 - ((x0.toUInt32 >>> ((1 : Int32).toUInt32 &&& Int32.toUInt32 31)).toInt32 &&& 1431655765)).toUInt32 >>> ((2 : Int32).toUInt32 &&& Int32.toUInt32 31)).toInt32 &&& 858993459)).toUInt32 >>> ((4 : Int32).toUInt32 &&& Int32.toUInt32 31)).toInt32) &&& 252645135).toUInt32 >>> ((8 : Int32).toUInt32 &&& Int32.toUInt32 31)).toInt32).toUInt32 >>> ((16 : Int32).toUInt32 &&& Int32.toUInt32 31)).toInt32) &&& 63)], σ)) rfl ?_
  cases hf
  exact go_r rfl
/-! java/util/ArrayList.<init>(I)V -/
def fJ2_init (x0 : Nat) (x1 : Int32) (σ : Sg) : Option Sg :=
  (fJ1_init x0 σ).bind fun q1 => if x1 ≤ 0 then if x1 ≠ 0 then none else none else if ¬ x1 < 0 then (am_new q1 (5, (x1 : Int32).toNatClampNeg) (x1 : Int32).toNatClampNeg).bind fun σ8 => if [16].elem (kk σ8 x0) = true then if (stT true x0 1).isNone = true then some (wr σ8 x0 1 (some (gz q1))) else none else none else none
set_option maxHeartbeats 1500000 in
theorem fJ2_init_ok (x0 : Nat) (x1 : Int32) (σ : Sg) (r : Sg) (hf : fJ2_init x0 x1 σ = some r) : Cl true 2 2816 [.ref x0, .int x1] σ (.inl none, r) := by
  refine ⟨iJ2_init, rfl, Nat.le_of_ble_eq_true rfl, Nat.le_of_ble_eq_true rfl, ?_⟩
  show Go true 2 iJ2_init (0, [some (.ref x0), some (.int x1)], [], σ) (.inl none, r)
  unfold fJ2_init at hf
  refine go_n 1 (f := (1, [some (.ref x0), some (.int x1)], [.ref x0], σ)) rfl ?_
  obtain ⟨q1, h2, hf⟩ := bnd hf
  refine go_c (mid := 256) (args := [.ref x0]) (pc := 4) (L := [some (.ref x0), some (.int x1)]) (st := []) (σ := σ) rfl ((fJ1_init_ok _ _ q1 h2).deep (Nat.le_of_ble_eq_true rfl)) ?_
  refine go_n 1 (f := (5, [some (.ref x0), some (.int x1)], [.int x1], q1)) rfl ?_
  by_cases h3 : x1 ≤ 0
  · rw [if_pos h3] at hf
    refine go_it (t := 19) (f := 8) (L1 := [some (.ref x0), some (.int x1)]) (st1 := []) (σ1 := q1) rfl h3 ?_
    refine go_n 1 (f := (20, [some (.ref x0), some (.int x1)], [.int x1], q1)) rfl ?_
    by_cases h4 : x1 ≠ 0
    · rw [if_pos h4] at hf
      refine go_it (t := 33) (f := 23) (L1 := [some (.ref x0), some (.int x1)]) (st1 := []) (σ1 := q1) rfl h4 ?_
      cases hf
    · rw [if_neg h4] at hf
      refine go_if (t := 33) (f := 23) (L1 := [some (.ref x0), some (.int x1)]) (st1 := []) (σ1 := q1) rfl h4 ?_
      cases hf
  · rw [if_neg h3] at hf
    refine go_if (t := 19) (f := 8) (L1 := [some (.ref x0), some (.int x1)]) (st1 := []) (σ1 := q1) rfl h3 ?_
    refine go_n 2 (f := (10, [some (.ref x0), some (.int x1)], [.int x1, .ref x0], q1)) rfl ?_
    obtain ⟨h9, hf⟩ := grd hf
    obtain ⟨σ8, h7, hf⟩ := bnd hf
    refine go_anew rfl rfl rfl h9 h7 ?_
    obtain ⟨h10, hf⟩ := grd hf
    obtain ⟨h11, hf⟩ := grd hf
    refine go_putr rfl rfl rfl h10 rfl h11 ?_
    refine go_n 1 (f := (60, [some (.ref x0), some (.int x1)], [], (wr σ8 x0 1 (some (gz q1))))) rfl ?_
    refine go_e (L1 := [none, none]) rfl rfl ?_
    cases hf
    exact go_r rfl
/-! java/util/ArrayList.clear()V -/
def fJ2_clear_L27 (x1 : Nat) (x2 : Int32)  (rec27 : (Int32 × Sg) → Option Sg) (s : Int32 × Sg) : Option Sg :=
  match s with
  | (x3, σ) => if x2 ≤ x3 then some σ else if (kk σ x1) = 5 then if inb x3 (kn σ x1) then rec27 ((x3 + 1), (wr σ x1 x3.toNatClampNeg none)) else none else none
set_option maxHeartbeats 1500000 in
theorem fJ2_clear_L27_ok (x1 : Nat) (x2 : Int32)   : ∀ (n : Nat) (x3 : Int32) (σ : Sg) (r : Sg), lp (fJ2_clear_L27 x1 x2 ) n (x3, σ) = some r → Go true 0 iJ2_clear (27, [none, some (.ref x1), some (.int x2), some (.int x3)], [], σ) (.inl none, r) := by
  intro n
  induction n with
  | zero => intro x3 σ r hf; cases hf
  | succ n ih =>
    intro x3 σ r hf
    have hf : fJ2_clear_L27 x1 x2  (lp (fJ2_clear_L27 x1 x2 ) n) (x3, σ) = some r := hf
    have hrec27 := ih
    generalize lp (fJ2_clear_L27 x1 x2 ) n = rec27 at hf hrec27
    unfold fJ2_clear_L27 at hf
    dsimp only at hf
    refine go_n 2 (f := (29, [none, some (.ref x1), some (.int x2), some (.int x3)], [.int x2, .int x3], σ)) rfl ?_
    by_cases h8 : x2 ≤ x3
    · rw [if_pos h8] at hf
      refine go_it (t := 42) (f := 32) (L1 := [none, some (.ref x1), some (.int x2), some (.int x3)]) (st1 := []) (σ1 := σ) rfl h8 ?_
      cases hf
      exact go_r rfl
    · rw [if_neg h8] at hf
      refine go_if (t := 42) (f := 32) (L1 := [none, some (.ref x1), some (.int x2), some (.int x3)]) (st1 := []) (σ1 := σ) rfl h8 ?_
      refine go_n 3 (f := (35, [none, some (.ref x1), some (.int x2), some (.int x3)], [.null, .int x3, .ref x1], σ)) rfl ?_
      obtain ⟨h10, hf⟩ := grd hf
      obtain ⟨h9, hf⟩ := grd hf
      refine go_aasn rfl rfl h10 h9 ?_
      refine go_n 2 (f := (27, [none, some (.ref x1), some (.int x2), some (.int (x3 + 1))], [], (wr σ x1 x3.toNatClampNeg none))) rfl ?_
      exact hrec27 _ _ _ hf
def fJ2_clear (x0 : Nat) (σ : Sg) : Option Sg :=
  if [16].elem (kk σ x0) = true then if [16].elem (kk σ x0) = true then if [16].elem (kk σ x0) = true then (match (rf σ x0 1) with
  | some a3 => if [16].elem (kk σ x0) = true then if [16].elem (kk σ x0) = true then lp (fJ2_clear_L27 a3 (gi σ x0 2) ) N0 (0, (wi (wi σ x0 0 ((gi σ x0 0) + 1)) x0 2 0)) else none else none
  | none => none) else none else none else none
set_option maxHeartbeats 1500000 in
theorem fJ2_clear_ok (x0 : Nat) (σ : Sg) (r : Sg) (hf : fJ2_clear x0 σ = some r) : Cl true 0 2817 [.ref x0] σ (.inl none, r) := by
  refine ⟨iJ2_clear, rfl, Nat.le_of_ble_eq_true rfl, Nat.le_of_ble_eq_true rfl, ?_⟩
  show Go true 0 iJ2_clear (0, [some (.ref x0), none, none, none], [], σ) (.inl none, r)
  unfold fJ2_clear at hf
  refine go_n 2 (f := (2, [some (.ref x0), none, none, none], [.ref x0, .ref x0], σ)) rfl ?_
  obtain ⟨h1, hf⟩ := grd hf
  refine go_get rfl rfl rfl h1 ?_
  refine go_n 2 (f := (7, [some (.ref x0), none, none, none], [.int ((gi σ x0 0) + 1), .ref x0], σ)) rfl ?_
  obtain ⟨h2, hf⟩ := grd hf
  refine go_puti rfl rfl rfl h2 rfl rfl rfl ?_
  refine go_n 1 (f := (11, [some (.ref x0), none, none, none], [.ref x0], (wi σ x0 0 ((gi σ x0 0) + 1)))) rfl ?_
  obtain ⟨h4, hf⟩ := grd hf
  refine go_get rfl rfl rfl h4 ?_
  rw [show am_rf true (wi σ x0 0 ((gi σ x0 0) + 1)) x0 1 2 = va_rf (rf σ x0 1) from by simp [am_rf, rf, grT, gr, wr, wi, wl]]
  show Go true 0 iJ2_clear (14, [some (.ref x0), none, none, none], va_rf (rf σ x0 1) :: [], (wi σ x0 0 ((gi σ x0 0) + 1))) _
  generalize hR5 : (rf σ x0 1) = h11 at hf ⊢
  cases h11 with
  | none =>
    cases hf
  | some a3 =>
    refine go_n 2 (f := (16, [some (.ref x0), some (.ref a3), none, none], [.ref x0], (wi σ x0 0 ((gi σ x0 0) + 1)))) rfl ?_
    obtain ⟨h6, hf⟩ := grd hf
    refine go_get rfl rfl rfl h6 ?_
    rw [show am_rf true (wi σ x0 0 ((gi σ x0 0) + 1)) x0 2 0 = .int (gi σ x0 2) from by simp [am_rf, gi, gl, wi, wl, wr]]
    refine go_n 4 (f := (23, [some (.ref x0), some (.ref a3), some (.int (gi σ x0 2)), none], [.int 0, .ref x0, .int 0], (wi σ x0 0 ((gi σ x0 0) + 1)))) rfl ?_
    obtain ⟨h7, hf⟩ := grd hf
    refine go_puti rfl rfl rfl h7 rfl rfl rfl ?_
    refine go_n 1 (f := (27, [some (.ref x0), some (.ref a3), some (.int (gi σ x0 2)), some (.int 0)], [], (wi (wi σ x0 0 ((gi σ x0 0) + 1)) x0 2 0))) rfl ?_
    refine go_e (L1 := [none, some (.ref a3), some (.int (gi σ x0 2)), some (.int 0)]) rfl rfl ?_
    exact fJ2_clear_L27_ok _ _   N0 _ _ _ hf
/-! java/util/ArrayList.toArray()[Ljava/lang/Object; -/
def fJ2_toArray (x0 : Nat) (σ : Sg) : Option (Nat × Sg) :=
  if [16].elem (kk σ x0) = true then (match (rf σ x0 1) with
  | some a1 => if [16].elem (kk σ x0) = true then (am_cof true σ a1 (gi σ x0 2)).bind fun q6 => some (q6.1, q6.2) else none
  | none => none) else none
set_option maxHeartbeats 1500000 in
theorem fJ2_toArray_ok (x0 : Nat) (σ : Sg) (r : (Nat × Sg)) (hf : fJ2_toArray x0 σ = some r) : Cl true 0 2819 [.ref x0] σ (.inl (some (.ref (r).1)), (r).2) := by
  refine ⟨iJ2_toArray, rfl, Nat.le_of_ble_eq_true rfl, Nat.le_of_ble_eq_true rfl, ?_⟩
  show Go true 0 iJ2_toArray (0, [some (.ref x0)], [], σ) (.inl (some (.ref (r).1)), (r).2)
  unfold fJ2_toArray at hf
  refine go_n 1 (f := (1, [some (.ref x0)], [.ref x0], σ)) rfl ?_
  obtain ⟨h2, hf⟩ := grd hf
  refine go_get rfl rfl rfl h2 ?_
  show Go true 0 iJ2_toArray (4, [some (.ref x0)], va_rf (rf σ x0 1) :: [], σ) _
  generalize hR3 : (rf σ x0 1) = h7 at hf ⊢
  cases h7 with
  | none =>
    cases hf
  | some a1 =>
    refine go_n 1 (f := (5, [some (.ref x0)], [.ref x0, .ref a1], σ)) rfl ?_
    obtain ⟨h4, hf⟩ := grd hf
    refine go_get rfl rfl rfl h4 ?_
    obtain ⟨q6, h5, hf⟩ := bnd hf
    refine go_b (mid := 20002) (args := [.ref a1, .int (gi σ x0 2)]) (pc := 11) (L := [some (.ref x0)]) (st := []) (σ := σ) rfl (by decide) (am_bi_cof h5) ?_
    cases hf
    exact go_r rfl
/-! java/util/ArrayList.size()I -/
def fJ2_size (x0 : Nat) (σ : Sg) : Option Int32 :=
  if [16].elem (kk σ x0) = true then some (gi σ x0 2) else none
set_option maxHeartbeats 1500000 in
theorem fJ2_size_ok (x0 : Nat) (σ : Sg) (r : Int32) (hf : fJ2_size x0 σ = some r) : Cl true 0 2821 [.ref x0] σ (.inl (some (.int r)), σ) := by
  refine ⟨iJ2_size, rfl, Nat.le_of_ble_eq_true rfl, Nat.le_of_ble_eq_true rfl, ?_⟩
  show Go true 0 iJ2_size (0, [some (.ref x0)], [], σ) (.inl (some (.int r)), σ)
  unfold fJ2_size at hf
  refine go_n 1 (f := (1, [some (.ref x0)], [.ref x0], σ)) rfl ?_
  obtain ⟨h1, hf⟩ := grd hf
  refine go_get rfl rfl rfl h1 ?_
  cases hf
  exact go_r rfl
/-! java/util/ArrayList.elementData(I)Ljava/lang/Object; -/
def fJ2_elementData (x0 : Nat) (x1 : Int32) (σ : Sg) : Option Nat :=
  if [16].elem (kk σ x0) = true then (match (rf σ x0 1) with
  | some a1 => if (kk σ a1) = 5 ∨ (kk σ a1) = 6 then if inb x1 (kn σ a1) then (match (gr σ a1 x1.toNatClampNeg) with
  | some a6 => some a6
  | none => none) else none else none
  | none => none) else none
set_option maxHeartbeats 1500000 in
theorem fJ2_elementData_ok (x0 : Nat) (x1 : Int32) (σ : Sg) (r : Nat) (hf : fJ2_elementData x0 x1 σ = some r) : Cl true 0 2826 [.ref x0, .int x1] σ (.inl (some (.ref r)), σ) := by
  refine ⟨iJ2_elementData, rfl, Nat.le_of_ble_eq_true rfl, Nat.le_of_ble_eq_true rfl, ?_⟩
  show Go true 0 iJ2_elementData (0, [some (.ref x0), some (.int x1)], [], σ) (.inl (some (.ref r)), σ)
  unfold fJ2_elementData at hf
  refine go_n 1 (f := (1, [some (.ref x0), some (.int x1)], [.ref x0], σ)) rfl ?_
  obtain ⟨h2, hf⟩ := grd hf
  refine go_get rfl rfl rfl h2 ?_
  show Go true 0 iJ2_elementData (4, [some (.ref x0), some (.int x1)], va_rf (rf σ x0 1) :: [], σ) _
  generalize hR3 : (rf σ x0 1) = h9 at hf ⊢
  cases h9 with
  | none =>
    cases hf
  | some a1 =>
    refine go_n 1 (f := (5, [some (.ref x0), some (.int x1)], [.int x1, .ref a1], σ)) rfl ?_
    obtain ⟨h4, hf⟩ := grd hf
    obtain ⟨h5, hf⟩ := grd hf
    refine go_aald rfl rfl h4 h5 ?_
    show Go true 0 iJ2_elementData (6, [some (.ref x0), some (.int x1)], va_rf (gr σ a1 x1.toNatClampNeg) :: [], σ) _
    generalize hR8 : (gr σ a1 x1.toNatClampNeg) = h7 at hf ⊢
    cases h7 with
    | none =>
      cases hf
    | some a6 =>
      cases hf
      exact go_r rfl
/-! java/lang/Math.max(II)I -/
def fJ5_max (x0 : Int32) (x1 : Int32) : Option Int32 :=
  ((fun (z2 : Int32) => some z2) (if x0 < x1 then x1 else x0))
set_option maxHeartbeats 1500000 in
theorem fJ5_max_ok (x0 : Int32) (x1 : Int32) (σ : Sg) (r : Int32) (hf : fJ5_max x0 x1 = some r) : Cl true 0 3584 [.int x0, .int x1] σ (.inl (some (.int r)), σ) := by
  refine ⟨iJ5_max, rfl, Nat.le_of_ble_eq_true rfl, Nat.le_of_ble_eq_true rfl, ?_⟩
  show Go true 0 iJ5_max (0, [some (.int x0), some (.int x1)], [], σ) (.inl (some (.int r)), σ)
  unfold fJ5_max at hf
  refine go_n 2 (f := (2, [some (.int x0), some (.int x1)], [.int x1, .int x0], σ)) rfl ?_
  refine go_m (f := (10, [none, none], [.int (if x0 < x1 then x1 else x0)], σ)) ?_ (fun hJ3 => ?_)
  · generalize hz2 : (if x0 < x1 then x1 else x0) = z2 at hf ⊢
    try dsimp only at hf
    cases hf
    exact go_r rfl
  · by_cases h1 : x0 < x1
    · refine go_it (t := 9) (f := 5) (L1 := [some (.int x0), some (.int x1)]) (st1 := []) (σ1 := σ) rfl h1 ?_
      refine go_n 1 (f := (10, [some (.int x0), some (.int x1)], [.int x1], σ)) rfl ?_
      refine go_e (L1 := [none, none]) rfl rfl ?_
      simp only [if_pos h1] at hJ3
      first | exact hJ3 | (simp only [if_pos h1]; exact hJ3)
    · refine go_if (t := 9) (f := 5) (L1 := [some (.int x0), some (.int x1)]) (st1 := []) (σ1 := σ) rfl h1 ?_
      refine go_n 2 (f := (10, [some (.int x0), some (.int x1)], [.int x0], σ)) rfl ?_
      refine go_e (L1 := [none, none]) rfl rfl ?_
      simp only [if_neg h1] at hJ3
      first | exact hJ3 | (simp only [if_neg h1]; exact hJ3)
/-! java/lang/Math.min(II)I -/
def fJ5_min (x0 : Int32) (x1 : Int32) : Option Int32 :=
  ((fun (z2 : Int32) => some z2) (if x1 < x0 then x1 else x0))
set_option maxHeartbeats 1500000 in
theorem fJ5_min_ok (x0 : Int32) (x1 : Int32) (σ : Sg) (r : Int32) (hf : fJ5_min x0 x1 = some r) : Cl true 0 3585 [.int x0, .int x1] σ (.inl (some (.int r)), σ) := by
  refine ⟨iJ5_min, rfl, Nat.le_of_ble_eq_true rfl, Nat.le_of_ble_eq_true rfl, ?_⟩
  show Go true 0 iJ5_min (0, [some (.int x0), some (.int x1)], [], σ) (.inl (some (.int r)), σ)
  unfold fJ5_min at hf
  refine go_n 2 (f := (2, [some (.int x0), some (.int x1)], [.int x1, .int x0], σ)) rfl ?_
  refine go_m (f := (10, [none, none], [.int (if x1 < x0 then x1 else x0)], σ)) ?_ (fun hJ3 => ?_)
  · generalize hz2 : (if x1 < x0 then x1 else x0) = z2 at hf ⊢
    try dsimp only at hf
    cases hf
    exact go_r rfl
  · by_cases h1 : x1 < x0
    · refine go_it (t := 9) (f := 5) (L1 := [some (.int x0), some (.int x1)]) (st1 := []) (σ1 := σ) rfl h1 ?_
      refine go_n 1 (f := (10, [some (.int x0), some (.int x1)], [.int x1], σ)) rfl ?_
      refine go_e (L1 := [none, none]) rfl rfl ?_
      simp only [if_pos h1] at hJ3
      first | exact hJ3 | (simp only [if_pos h1]; exact hJ3)
    · refine go_if (t := 9) (f := 5) (L1 := [some (.int x0), some (.int x1)]) (st1 := []) (σ1 := σ) rfl h1 ?_
      refine go_n 2 (f := (10, [some (.int x0), some (.int x1)], [.int x0], σ)) rfl ?_
      refine go_e (L1 := [none, none]) rfl rfl ?_
      simp only [if_neg h1] at hJ3
      first | exact hJ3 | (simp only [if_neg h1]; exact hJ3)
/-! java/lang/Math.abs(J)J -/
def fJ5_abs (x0 : Int64) : Option Int64 :=
  ((fun (z2 : Int64) => some z2) (if 0 ≤ x0 then x0 else (-x0)))
set_option maxHeartbeats 1500000 in
theorem fJ5_abs_ok (x0 : Int64) (σ : Sg) (r : Int64) (hf : fJ5_abs x0 = some r) : Cl true 0 3586 [.long x0] σ (.inl (some (.long r)), σ) := by
  refine ⟨iJ5_abs, rfl, Nat.le_of_ble_eq_true rfl, Nat.le_of_ble_eq_true rfl, ?_⟩
  show Go true 0 iJ5_abs (0, [some (.long x0), none], [], σ) (.inl (some (.long r)), σ)
  unfold fJ5_abs at hf
  refine go_n 3 (f := (3, [some (.long x0), none], [.int (lg_cmp x0 0)], σ)) rfl ?_
  refine go_m (f := (12, [none, none], [.long (if 0 ≤ x0 then x0 else (-x0))], σ)) ?_ (fun hJ3 => ?_)
  · generalize hz2 : (if 0 ≤ x0 then x0 else (-x0)) = z2 at hf ⊢
    try dsimp only at hf
    cases hf
    exact go_r rfl
  · by_cases h1 : 0 ≤ x0
    · refine go_it (t := 11) (f := 6) (L1 := [some (.long x0), none]) (st1 := []) (σ1 := σ) rfl ((lgc_ge x0 0).mpr h1) ?_
      refine go_n 1 (f := (12, [some (.long x0), none], [.long x0], σ)) rfl ?_
      refine go_e (L1 := [none, none]) rfl rfl ?_
      simp only [if_pos h1] at hJ3
      first | exact hJ3 | (simp only [if_pos h1]; exact hJ3)
    · refine go_if (t := 11) (f := 6) (L1 := [some (.long x0), none]) (st1 := []) (σ1 := σ) rfl (fun q => h1 ((lgc_ge x0 0).mp q)) ?_
      refine go_n 3 (f := (12, [some (.long x0), none], [.long (-x0)], σ)) rfl ?_
      refine go_e (L1 := [none, none]) rfl rfl ?_
      simp only [if_neg h1] at hJ3
      first | exact hJ3 | (simp only [if_neg h1]; exact hJ3)
/-! java/lang/Math.min(JJ)J -/
def fJ5_min_2 (x0 : Int64) (x2 : Int64) : Option Int64 :=
  ((fun (z2 : Int64) => some z2) (if x2 < x0 then x2 else x0))
set_option maxHeartbeats 1500000 in
theorem fJ5_min_2_ok (x0 : Int64) (x2 : Int64) (σ : Sg) (r : Int64) (hf : fJ5_min_2 x0 x2 = some r) : Cl true 0 3587 [.long x0, .long x2] σ (.inl (some (.long r)), σ) := by
  refine ⟨iJ5_min_2, rfl, Nat.le_of_ble_eq_true rfl, Nat.le_of_ble_eq_true rfl, ?_⟩
  show Go true 0 iJ5_min_2 (0, [some (.long x0), none, some (.long x2), none], [], σ) (.inl (some (.long r)), σ)
  unfold fJ5_min_2 at hf
  refine go_n 3 (f := (3, [some (.long x0), none, some (.long x2), none], [.int (lg_cmp x0 x2)], σ)) rfl ?_
  refine go_m (f := (11, [none, none, none, none], [.long (if x2 < x0 then x2 else x0)], σ)) ?_ (fun hJ3 => ?_)
  · generalize hz2 : (if x2 < x0 then x2 else x0) = z2 at hf ⊢
    try dsimp only at hf
    cases hf
    exact go_r rfl
  · by_cases h1 : x2 < x0
    · refine go_it (t := 10) (f := 6) (L1 := [some (.long x0), none, some (.long x2), none]) (st1 := []) (σ1 := σ) rfl ((lgc_gt x0 x2).mpr h1) ?_
      refine go_n 1 (f := (11, [some (.long x0), none, some (.long x2), none], [.long x2], σ)) rfl ?_
      refine go_e (L1 := [none, none, none, none]) rfl rfl ?_
      simp only [if_pos h1] at hJ3
      first | exact hJ3 | (simp only [if_pos h1]; exact hJ3)
    · refine go_if (t := 10) (f := 6) (L1 := [some (.long x0), none, some (.long x2), none]) (st1 := []) (σ1 := σ) rfl (fun q => h1 ((lgc_gt x0 x2).mp q)) ?_
      refine go_n 2 (f := (11, [some (.long x0), none, some (.long x2), none], [.long x0], σ)) rfl ?_
      refine go_e (L1 := [none, none, none, none]) rfl rfl ?_
      simp only [if_neg h1] at hJ3
      first | exact hJ3 | (simp only [if_neg h1]; exact hJ3)
/-! java/lang/Math.max(JJ)J -/
def fJ5_max_2 (x0 : Int64) (x2 : Int64) : Option Int64 :=
  ((fun (z2 : Int64) => some z2) (if x0 < x2 then x2 else x0))
set_option maxHeartbeats 1500000 in
theorem fJ5_max_2_ok (x0 : Int64) (x2 : Int64) (σ : Sg) (r : Int64) (hf : fJ5_max_2 x0 x2 = some r) : Cl true 0 3588 [.long x0, .long x2] σ (.inl (some (.long r)), σ) := by
  refine ⟨iJ5_max_2, rfl, Nat.le_of_ble_eq_true rfl, Nat.le_of_ble_eq_true rfl, ?_⟩
  show Go true 0 iJ5_max_2 (0, [some (.long x0), none, some (.long x2), none], [], σ) (.inl (some (.long r)), σ)
  unfold fJ5_max_2 at hf
  refine go_n 3 (f := (3, [some (.long x0), none, some (.long x2), none], [.int (lg_cmp x0 x2)], σ)) rfl ?_
  refine go_m (f := (11, [none, none, none, none], [.long (if x0 < x2 then x2 else x0)], σ)) ?_ (fun hJ3 => ?_)
  · generalize hz2 : (if x0 < x2 then x2 else x0) = z2 at hf ⊢
    try dsimp only at hf
    cases hf
    exact go_r rfl
  · by_cases h1 : x0 < x2
    · refine go_it (t := 10) (f := 6) (L1 := [some (.long x0), none, some (.long x2), none]) (st1 := []) (σ1 := σ) rfl ((lgc_lt x0 x2).mpr h1) ?_
      refine go_n 1 (f := (11, [some (.long x0), none, some (.long x2), none], [.long x2], σ)) rfl ?_
      refine go_e (L1 := [none, none, none, none]) rfl rfl ?_
      simp only [if_pos h1] at hJ3
      first | exact hJ3 | (simp only [if_pos h1]; exact hJ3)
    · refine go_if (t := 10) (f := 6) (L1 := [some (.long x0), none, some (.long x2), none]) (st1 := []) (σ1 := σ) rfl (fun q => h1 ((lgc_lt x0 x2).mp q)) ?_
      refine go_n 2 (f := (11, [some (.long x0), none, some (.long x2), none], [.long x0], σ)) rfl ?_
      refine go_e (L1 := [none, none, none, none]) rfl rfl ?_
      simp only [if_neg h1] at hJ3
      first | exact hJ3 | (simp only [if_neg h1]; exact hJ3)
/-! java/lang/Math.floorDiv(JJ)J -/
def fJ5_floorDiv (x0 : Int64) (x2 : Int64) : Option Int64 :=
  if ¬ x2 = 0 then if 0 ≤ (x0 ^^^ x2) then some (x0 / x2) else if ((x0 / x2) * x2) = x0 then some (x0 / x2) else some ((x0 / x2) - 1) else none
set_option maxHeartbeats 1500000 in
theorem fJ5_floorDiv_ok (x0 : Int64) (x2 : Int64) (σ : Sg) (r : Int64) (hf : fJ5_floorDiv x0 x2 = some r) : Cl true 0 3589 [.long x0, .long x2] σ (.inl (some (.long r)), σ) := by
  refine ⟨iJ5_floorDiv, rfl, Nat.le_of_ble_eq_true rfl, Nat.le_of_ble_eq_true rfl, ?_⟩
  show Go true 0 iJ5_floorDiv (0, [some (.long x0), none, some (.long x2), none, none, none], [], σ) (.inl (some (.long r)), σ)
  unfold fJ5_floorDiv at hf
  refine go_n 2 (f := (2, [some (.long x0), none, some (.long x2), none, none, none], [.long x2, .long x0], σ)) rfl ?_
  obtain ⟨h3, hf⟩ := grd hf
  refine go_ldiv rfl rfl h3 ?_
  refine go_n 6 (f := (10, [some (.long x0), none, some (.long x2), none, some (.long (x0 / x2)), none], [.int (lg_cmp (x0 ^^^ x2) 0)], σ)) rfl ?_
  by_cases h1 : 0 ≤ (x0 ^^^ x2)
  · rw [if_pos h1] at hf
    refine go_it (t := 27) (f := 13) (L1 := [some (.long x0), none, some (.long x2), none, some (.long (x0 / x2)), none]) (st1 := []) (σ1 := σ) rfl ((lgc_ge (x0 ^^^ x2) 0).mpr h1) ?_
    refine go_e (L1 := [none, none, none, none, some (.long (x0 / x2)), none]) rfl rfl ?_
    refine go_n 1 (f := (29, [none, none, none, none, some (.long (x0 / x2)), none], [.long (x0 / x2)], σ)) rfl ?_
    cases hf
    exact go_r rfl
  · rw [if_neg h1] at hf
    refine go_if (t := 27) (f := 13) (L1 := [some (.long x0), none, some (.long x2), none, some (.long (x0 / x2)), none]) (st1 := []) (σ1 := σ) rfl (fun q => h1 ((lgc_ge (x0 ^^^ x2) 0).mp q)) ?_
    refine go_n 5 (f := (19, [some (.long x0), none, some (.long x2), none, some (.long (x0 / x2)), none], [.int (lg_cmp ((x0 / x2) * x2) x0)], σ)) rfl ?_
    by_cases h2 : ((x0 / x2) * x2) = x0
    · rw [if_pos h2] at hf
      refine go_it (t := 27) (f := 22) (L1 := [some (.long x0), none, some (.long x2), none, some (.long (x0 / x2)), none]) (st1 := []) (σ1 := σ) rfl ((lgc_eq ((x0 / x2) * x2) x0).mpr h2) ?_
      refine go_e (L1 := [none, none, none, none, some (.long (x0 / x2)), none]) rfl rfl ?_
      refine go_n 1 (f := (29, [none, none, none, none, some (.long (x0 / x2)), none], [.long (x0 / x2)], σ)) rfl ?_
      cases hf
      exact go_r rfl
    · rw [if_neg h2] at hf
      refine go_if (t := 27) (f := 22) (L1 := [some (.long x0), none, some (.long x2), none, some (.long (x0 / x2)), none]) (st1 := []) (σ1 := σ) rfl (fun q => h2 ((lgc_eq ((x0 / x2) * x2) x0).mp q)) ?_
      refine go_n 3 (f := (26, [some (.long x0), none, some (.long x2), none, some (.long (x0 / x2)), none], [.long ((x0 / x2) - 1)], σ)) rfl ?_
      cases hf
      exact go_r rfl
/-! java/lang/Math.floorDiv(II)I -/
def fJ5_floorDiv_2 (x0 : Int32) (x1 : Int32) : Option Int32 :=
  if ¬ x1 = 0 then if 0 ≤ (x0 ^^^ x1) then some (x0 / x1) else if ((x0 / x1) * x1) = x0 then some (x0 / x1) else some ((x0 / x1) - 1) else none
set_option maxHeartbeats 1500000 in
theorem fJ5_floorDiv_2_ok (x0 : Int32) (x1 : Int32) (σ : Sg) (r : Int32) (hf : fJ5_floorDiv_2 x0 x1 = some r) : Cl true 0 3590 [.int x0, .int x1] σ (.inl (some (.int r)), σ) := by
  refine ⟨iJ5_floorDiv_2, rfl, Nat.le_of_ble_eq_true rfl, Nat.le_of_ble_eq_true rfl, ?_⟩
  show Go true 0 iJ5_floorDiv_2 (0, [some (.int x0), some (.int x1), none], [], σ) (.inl (some (.int r)), σ)
  unfold fJ5_floorDiv_2 at hf
  refine go_n 2 (f := (2, [some (.int x0), some (.int x1), none], [.int x1, .int x0], σ)) rfl ?_
  obtain ⟨h3, hf⟩ := grd hf
  refine go_idiv rfl rfl h3 ?_
  refine go_n 4 (f := (7, [some (.int x0), some (.int x1), some (.int (x0 / x1))], [.int (x0 ^^^ x1)], σ)) rfl ?_
  by_cases h1 : 0 ≤ (x0 ^^^ x1)
  · rw [if_pos h1] at hf
    refine go_it (t := 21) (f := 10) (L1 := [some (.int x0), some (.int x1), some (.int (x0 / x1))]) (st1 := []) (σ1 := σ) rfl h1 ?_
    refine go_e (L1 := [none, none, some (.int (x0 / x1))]) rfl rfl ?_
    refine go_n 1 (f := (22, [none, none, some (.int (x0 / x1))], [.int (x0 / x1)], σ)) rfl ?_
    cases hf
    exact go_r rfl
  · rw [if_neg h1] at hf
    refine go_if (t := 21) (f := 10) (L1 := [some (.int x0), some (.int x1), some (.int (x0 / x1))]) (st1 := []) (σ1 := σ) rfl h1 ?_
    refine go_n 4 (f := (14, [some (.int x0), some (.int x1), some (.int (x0 / x1))], [.int x0, .int ((x0 / x1) * x1)], σ)) rfl ?_
    by_cases h2 : ((x0 / x1) * x1) = x0
    · rw [if_pos h2] at hf
      refine go_it (t := 21) (f := 17) (L1 := [some (.int x0), some (.int x1), some (.int (x0 / x1))]) (st1 := []) (σ1 := σ) rfl h2 ?_
      refine go_e (L1 := [none, none, some (.int (x0 / x1))]) rfl rfl ?_
      refine go_n 1 (f := (22, [none, none, some (.int (x0 / x1))], [.int (x0 / x1)], σ)) rfl ?_
      cases hf
      exact go_r rfl
    · rw [if_neg h2] at hf
      refine go_if (t := 21) (f := 17) (L1 := [some (.int x0), some (.int x1), some (.int (x0 / x1))]) (st1 := []) (σ1 := σ) rfl h2 ?_
      refine go_n 3 (f := (20, [some (.int x0), some (.int x1), some (.int (x0 / x1))], [.int ((x0 / x1) - 1)], σ)) rfl ?_
      cases hf
      exact go_r rfl
/-! jdk/internal/util/ArraysSupport.hugeLength(II)I -/
def fJ6_hugeLength (x0 : Int32) (x1 : Int32) (σ : Sg) : Option (Int32 × Sg) :=
  if 0 ≤ (x0 + x1) then if 2147483639 < (x0 + x1) then some ((x0 + x1), σ) else some (2147483639, σ) else none
set_option maxHeartbeats 1500000 in
theorem fJ6_hugeLength_ok (x0 : Int32) (x1 : Int32) (σ : Sg) (r : (Int32 × Sg)) (hf : fJ6_hugeLength x0 x1 σ = some r) : Cl true 0 3841 [.int x0, .int x1] σ (.inl (some (.int (r).1)), (r).2) := by
  refine ⟨iJ6_hugeLength, rfl, Nat.le_of_ble_eq_true rfl, Nat.le_of_ble_eq_true rfl, ?_⟩
  show Go true 0 iJ6_hugeLength (0, [some (.int x0), some (.int x1), none], [], σ) (.inl (some (.int (r).1)), (r).2)
  unfold fJ6_hugeLength at hf
  refine go_n 5 (f := (5, [some (.int x0), some (.int x1), some (.int (x0 + x1))], [.int (x0 + x1)], σ)) rfl ?_
  by_cases h1 : 0 ≤ (x0 + x1)
  · rw [if_pos h1] at hf
    refine go_it (t := 49) (f := 8) (L1 := [some (.int x0), some (.int x1), some (.int (x0 + x1))]) (st1 := []) (σ1 := σ) rfl h1 ?_
    refine go_n 2 (f := (52, [some (.int x0), some (.int x1), some (.int (x0 + x1))], [.int 2147483639, .int (x0 + x1)], σ)) rfl ?_
    by_cases h2 : 2147483639 < (x0 + x1)
    · rw [if_pos h2] at hf
      refine go_it (t := 58) (f := 55) (L1 := [some (.int x0), some (.int x1), some (.int (x0 + x1))]) (st1 := []) (σ1 := σ) rfl h2 ?_
      refine go_n 1 (f := (59, [some (.int x0), some (.int x1), some (.int (x0 + x1))], [.int (x0 + x1)], σ)) rfl ?_
      cases hf
      exact go_r rfl
    · rw [if_neg h2] at hf
      refine go_if (t := 58) (f := 55) (L1 := [some (.int x0), some (.int x1), some (.int (x0 + x1))]) (st1 := []) (σ1 := σ) rfl h2 ?_
      refine go_n 1 (f := (57, [some (.int x0), some (.int x1), some (.int (x0 + x1))], [.int 2147483639], σ)) rfl ?_
      cases hf
      exact go_r rfl
  · rw [if_neg h1] at hf
    refine go_if (t := 49) (f := 8) (L1 := [some (.int x0), some (.int x1), some (.int (x0 + x1))]) (st1 := []) (σ1 := σ) rfl h1 ?_
    cases hf
/-! OldWeather.in(III)Z -/
def fX0_in (x0 : Int32) (x1 : Int32) (x2 : Int32) : Option Int32 :=
  ((fun (z3 : Int32) => some z3) ((if x0 < x1 then 0 else (if x2 < x0 then 0 else 1)) : Int32))
set_option maxHeartbeats 1500000 in
theorem fX0_in_ok (x0 : Int32) (x1 : Int32) (x2 : Int32) (σ : Sg) (r : Int32) (hf : fX0_in x0 x1 x2 = some r) : Cl true 0 5122 [.int x0, .int x1, .int x2] σ (.inl (some (.int r)), σ) := by
  refine ⟨iX0_in, rfl, Nat.le_of_ble_eq_true rfl, Nat.le_of_ble_eq_true rfl, ?_⟩
  show Go true 0 iX0_in (0, [some (.int x0), some (.int x1), some (.int x2)], [], σ) (.inl (some (.int r)), σ)
  unfold fX0_in at hf
  refine go_n 2 (f := (2, [some (.int x0), some (.int x1), some (.int x2)], [.int x1, .int x0], σ)) rfl ?_
  refine go_m (f := (15, [none, none, none], [.int ((if x0 < x1 then 0 else (if x2 < x0 then 0 else 1)) : Int32)], σ)) ?_ (fun hJ4 => ?_)
  · generalize hz3 : ((if x0 < x1 then 0 else (if x2 < x0 then 0 else 1)) : Int32) = z3 at hf ⊢
    have oz3 : am_ok 3 z3 = true := hz3 ▸ (okb rfl (okb rfl rfl))
    try dsimp only at hf
    cases hf
    exact go_ret rfl rfl (Or.inr (Or.inl ⟨rfl, oz3⟩))
  · by_cases h1 : x0 < x1
    · refine go_it (t := 14) (f := 5) (L1 := [some (.int x0), some (.int x1), some (.int x2)]) (st1 := []) (σ1 := σ) rfl h1 ?_
      refine go_e (L1 := [none, none, none]) rfl rfl ?_
      refine go_n 1 (f := (15, [none, none, none], [.int 0], σ)) rfl ?_
      refine go_e (L1 := [none, none, none]) rfl rfl ?_
      simp only [if_pos h1] at hJ4
      first | exact hJ4 | (simp only [if_pos h1]; exact hJ4)
    · refine go_if (t := 14) (f := 5) (L1 := [some (.int x0), some (.int x1), some (.int x2)]) (st1 := []) (σ1 := σ) rfl h1 ?_
      refine go_n 2 (f := (7, [some (.int x0), some (.int x1), some (.int x2)], [.int x2, .int x0], σ)) rfl ?_
      by_cases h2 : x2 < x0
      · refine go_it (t := 14) (f := 10) (L1 := [some (.int x0), some (.int x1), some (.int x2)]) (st1 := []) (σ1 := σ) rfl h2 ?_
        refine go_e (L1 := [none, none, none]) rfl rfl ?_
        refine go_n 1 (f := (15, [none, none, none], [.int 0], σ)) rfl ?_
        refine go_e (L1 := [none, none, none]) rfl rfl ?_
        simp only [if_neg h1, if_pos h2] at hJ4
        first | exact hJ4 | (simp only [if_neg h1, if_pos h2]; exact hJ4)
      · refine go_if (t := 14) (f := 10) (L1 := [some (.int x0), some (.int x1), some (.int x2)]) (st1 := []) (σ1 := σ) rfl h2 ?_
        refine go_n 2 (f := (15, [some (.int x0), some (.int x1), some (.int x2)], [.int 1], σ)) rfl ?_
        refine go_e (L1 := [none, none, none]) rfl rfl ?_
        simp only [if_neg h1, if_neg h2] at hJ4
        first | exact hJ4 | (simp only [if_neg h1, if_neg h2]; exact hJ4)
/-! OldWeather.isLong(II)Z -/
def fX0_isLong (x0 : Int32) (x1 : Int32) : Option Int32 :=
  if (x0 - x0 / 4 * 4) ≠ 0 then some 0 else if x1 = 0 then some 1 else if (x0 - x0 / 100 * 100) ≠ 0 then some 1 else ((fun (z5 : Int32) => some z5) ((if (x0 - x0 / 400 * 400) ≠ 0 then 0 else 1) : Int32))
set_option maxHeartbeats 1500000 in
theorem fX0_isLong_ok (x0 : Int32) (x1 : Int32) (σ : Sg) (r : Int32) (hf : fX0_isLong x0 x1 = some r) : Cl true 0 5125 [.int x0, .int x1] σ (.inl (some (.int r)), σ) := by
  refine ⟨iX0_isLong, rfl, Nat.le_of_ble_eq_true rfl, Nat.le_of_ble_eq_true rfl, ?_⟩
  show Go true 0 iX0_isLong (0, [some (.int x0), some (.int x1)], [], σ) (.inl (some (.int r)), σ)
  unfold fX0_isLong at hf
  refine go_n 2 (f := (2, [some (.int x0), some (.int x1)], [.int 4, .int x0], σ)) rfl ?_
  refine go_irem rfl rfl (by decide) ?_
  by_cases h1 : (x0 - x0 / 4 * 4) ≠ 0
  · rw [if_pos h1] at hf
    refine go_it (t := 29) (f := 6) (L1 := [some (.int x0), some (.int x1)]) (st1 := []) (σ1 := σ) rfl h1 ?_
    refine go_e (L1 := [none, none]) rfl rfl ?_
    refine go_n 1 (f := (30, [none, none], [.int 0], σ)) rfl ?_
    cases hf
    exact go_r rfl
  · rw [if_neg h1] at hf
    refine go_if (t := 29) (f := 6) (L1 := [some (.int x0), some (.int x1)]) (st1 := []) (σ1 := σ) rfl h1 ?_
    refine go_n 1 (f := (7, [some (.int x0), some (.int x1)], [.int x1], σ)) rfl ?_
    by_cases h2 : x1 = 0
    · rw [if_pos h2] at hf
      refine go_it (t := 25) (f := 10) (L1 := [some (.int x0), some (.int x1)]) (st1 := []) (σ1 := σ) rfl h2 ?_
      refine go_e (L1 := [none, none]) rfl rfl ?_
      refine go_n 2 (f := (30, [none, none], [.int 1], σ)) rfl ?_
      cases hf
      exact go_r rfl
    · rw [if_neg h2] at hf
      refine go_if (t := 25) (f := 10) (L1 := [some (.int x0), some (.int x1)]) (st1 := []) (σ1 := σ) rfl h2 ?_
      refine go_n 2 (f := (13, [some (.int x0), some (.int x1)], [.int 100, .int x0], σ)) rfl ?_
      refine go_irem rfl rfl (by decide) ?_
      by_cases h3 : (x0 - x0 / 100 * 100) ≠ 0
      · rw [if_pos h3] at hf
        refine go_it (t := 25) (f := 17) (L1 := [some (.int x0), some (.int x1)]) (st1 := []) (σ1 := σ) rfl h3 ?_
        refine go_e (L1 := [none, none]) rfl rfl ?_
        refine go_n 2 (f := (30, [none, none], [.int 1], σ)) rfl ?_
        cases hf
        exact go_r rfl
      · rw [if_neg h3] at hf
        refine go_if (t := 25) (f := 17) (L1 := [some (.int x0), some (.int x1)]) (st1 := []) (σ1 := σ) rfl h3 ?_
        refine go_n 2 (f := (21, [some (.int x0), some (.int x1)], [.int 400, .int x0], σ)) rfl ?_
        refine go_irem rfl rfl (by decide) ?_
        refine go_m (f := (30, [none, none], [.int ((if (x0 - x0 / 400 * 400) ≠ 0 then 0 else 1) : Int32)], σ)) ?_ (fun hJ6 => ?_)
        · generalize hz5 : ((if (x0 - x0 / 400 * 400) ≠ 0 then 0 else 1) : Int32) = z5 at hf ⊢
          have oz5 : am_ok 3 z5 = true := hz5 ▸ (okb rfl rfl)
          try dsimp only at hf
          cases hf
          exact go_ret rfl rfl (Or.inr (Or.inl ⟨rfl, oz5⟩))
        · by_cases h4 : (x0 - x0 / 400 * 400) ≠ 0
          · refine go_it (t := 29) (f := 25) (L1 := [some (.int x0), some (.int x1)]) (st1 := []) (σ1 := σ) rfl h4 ?_
            refine go_e (L1 := [none, none]) rfl rfl ?_
            refine go_n 1 (f := (30, [none, none], [.int 0], σ)) rfl ?_
            refine go_e (L1 := [none, none]) rfl rfl ?_
            simp only [if_pos h4] at hJ6
            first | exact hJ6 | (simp only [if_pos h4]; exact hJ6)
          · refine go_if (t := 29) (f := 25) (L1 := [some (.int x0), some (.int x1)]) (st1 := []) (σ1 := σ) rfl h4 ?_
            refine go_e (L1 := [none, none]) rfl rfl ?_
            refine go_n 2 (f := (30, [none, none], [.int 1], σ)) rfl ?_
            refine go_e (L1 := [none, none]) rfl rfl ?_
            simp only [if_neg h4] at hJ6
            first | exact hJ6 | (simp only [if_neg h4]; exact hJ6)
/-! OldWeather.yearBegins(II)I -/
def fX0_yearBegins (x0 : Int32) (x1 : Int32) : Option Int32 :=
  if x1 ≠ 0 then ((fun (z3 : Int32) => ((fun (z5 : Int32) => ((fun (z7 : Int32) => some (((((365 * (x0 - 1600)) + (((x0 - 1600) + 3) / 4)) - z3) - z5) - z7)) ((if x0 ≤ 1900 then 0 else 1) : Int32))) ((if x0 ≤ 1800 then 0 else 1) : Int32))) ((if x0 ≤ 1700 then 0 else 1) : Int32)) else some (((365 * (x0 - 1600)) + (((x0 - 1600) + 3) / 4)) + 10)
set_option maxHeartbeats 1500000 in
theorem fX0_yearBegins_ok (x0 : Int32) (x1 : Int32) (σ : Sg) (r : Int32) (hf : fX0_yearBegins x0 x1 = some r) : Cl true 0 5127 [.int x0, .int x1] σ (.inl (some (.int r)), σ) := by
  refine ⟨iX0_yearBegins, rfl, Nat.le_of_ble_eq_true rfl, Nat.le_of_ble_eq_true rfl, ?_⟩
  show Go true 0 iX0_yearBegins (0, [some (.int x0), some (.int x1), none, none], [], σ) (.inl (some (.int r)), σ)
  unfold fX0_yearBegins at hf
  refine go_n 10 (f := (14, [some (.int x0), some (.int x1), some (.int (x0 - 1600)), none], [.int ((x0 - 1600) + 3), .int (365 * (x0 - 1600))], σ)) rfl ?_
  refine go_n 1 (f := (15, [some (.int x0), some (.int x1), some (.int (x0 - 1600)), none], [.int 4, .int ((x0 - 1600) + 3), .int (365 * (x0 - 1600))], σ)) rfl ?_
  refine go_idiv rfl rfl (by decide) ?_
  refine go_n 3 (f := (19, [some (.int x0), some (.int x1), some (.int (x0 - 1600)), some (.int ((365 * (x0 - 1600)) + (((x0 - 1600) + 3) / 4)))], [.int x1], σ)) rfl ?_
  by_cases h1 : x1 ≠ 0
  · rw [if_pos h1] at hf
    refine go_it (t := 27) (f := 22) (L1 := [some (.int x0), some (.int x1), some (.int (x0 - 1600)), some (.int ((365 * (x0 - 1600)) + (((x0 - 1600) + 3) / 4)))]) (st1 := []) (σ1 := σ) rfl h1 ?_
    refine go_n 3 (f := (32, [some (.int x0), some (.int x1), some (.int (x0 - 1600)), some (.int ((365 * (x0 - 1600)) + (((x0 - 1600) + 3) / 4)))], [.int 1700, .int x0, .int ((365 * (x0 - 1600)) + (((x0 - 1600) + 3) / 4))], σ)) rfl ?_
    refine go_m (f := (40, [some (.int x0), none, none, none], [.int ((if x0 ≤ 1700 then 0 else 1) : Int32), .int ((365 * (x0 - 1600)) + (((x0 - 1600) + 3) / 4))], σ)) ?_ (fun hJ10 => ?_)
    · generalize hz3 : ((if x0 ≤ 1700 then 0 else 1) : Int32) = z3 at hf ⊢
      have oz3 : am_ok 3 z3 = true := hz3 ▸ (okb rfl rfl)
      try dsimp only at hf
      refine go_n 3 (f := (45, [some (.int x0), none, none, none], [.int 1800, .int x0, .int (((365 * (x0 - 1600)) + (((x0 - 1600) + 3) / 4)) - z3)], σ)) rfl ?_
      refine go_m (f := (53, [some (.int x0), none, none, none], [.int ((if x0 ≤ 1800 then 0 else 1) : Int32), .int (((365 * (x0 - 1600)) + (((x0 - 1600) + 3) / 4)) - z3)], σ)) ?_ (fun hJ9 => ?_)
      · generalize hz5 : ((if x0 ≤ 1800 then 0 else 1) : Int32) = z5 at hf ⊢
        have oz5 : am_ok 3 z5 = true := hz5 ▸ (okb rfl rfl)
        try dsimp only at hf
        refine go_n 3 (f := (58, [some (.int x0), none, none, none], [.int 1900, .int x0, .int ((((365 * (x0 - 1600)) + (((x0 - 1600) + 3) / 4)) - z3) - z5)], σ)) rfl ?_
        refine go_m (f := (66, [none, none, none, none], [.int ((if x0 ≤ 1900 then 0 else 1) : Int32), .int ((((365 * (x0 - 1600)) + (((x0 - 1600) + 3) / 4)) - z3) - z5)], σ)) ?_ (fun hJ8 => ?_)
        · generalize hz7 : ((if x0 ≤ 1900 then 0 else 1) : Int32) = z7 at hf ⊢
          have oz7 : am_ok 3 z7 = true := hz7 ▸ (okb rfl rfl)
          try dsimp only at hf
          refine go_n 1 (f := (67, [none, none, none, none], [.int (((((365 * (x0 - 1600)) + (((x0 - 1600) + 3) / 4)) - z3) - z5) - z7)], σ)) rfl ?_
          cases hf
          exact go_r rfl
        · by_cases h6 : x0 ≤ 1900
          · refine go_it (t := 65) (f := 61) (L1 := [some (.int x0), none, none, none]) (st1 := [.int ((((365 * (x0 - 1600)) + (((x0 - 1600) + 3) / 4)) - z3) - z5)]) (σ1 := σ) rfl h6 ?_
            refine go_n 1 (f := (66, [some (.int x0), none, none, none], [.int 0, .int ((((365 * (x0 - 1600)) + (((x0 - 1600) + 3) / 4)) - z3) - z5)], σ)) rfl ?_
            refine go_e (L1 := [none, none, none, none]) rfl rfl ?_
            simp only [if_pos h6] at hJ8
            first | exact hJ8 | (simp only [if_pos h6]; exact hJ8)
          · refine go_if (t := 65) (f := 61) (L1 := [some (.int x0), none, none, none]) (st1 := [.int ((((365 * (x0 - 1600)) + (((x0 - 1600) + 3) / 4)) - z3) - z5)]) (σ1 := σ) rfl h6 ?_
            refine go_n 2 (f := (66, [some (.int x0), none, none, none], [.int 1, .int ((((365 * (x0 - 1600)) + (((x0 - 1600) + 3) / 4)) - z3) - z5)], σ)) rfl ?_
            refine go_e (L1 := [none, none, none, none]) rfl rfl ?_
            simp only [if_neg h6] at hJ8
            first | exact hJ8 | (simp only [if_neg h6]; exact hJ8)
      · by_cases h4 : x0 ≤ 1800
        · refine go_it (t := 52) (f := 48) (L1 := [some (.int x0), none, none, none]) (st1 := [.int (((365 * (x0 - 1600)) + (((x0 - 1600) + 3) / 4)) - z3)]) (σ1 := σ) rfl h4 ?_
          refine go_n 1 (f := (53, [some (.int x0), none, none, none], [.int 0, .int (((365 * (x0 - 1600)) + (((x0 - 1600) + 3) / 4)) - z3)], σ)) rfl ?_
          refine go_e (L1 := [some (.int x0), none, none, none]) rfl rfl ?_
          simp only [if_pos h4] at hJ9
          first | exact hJ9 | (simp only [if_pos h4]; exact hJ9)
        · refine go_if (t := 52) (f := 48) (L1 := [some (.int x0), none, none, none]) (st1 := [.int (((365 * (x0 - 1600)) + (((x0 - 1600) + 3) / 4)) - z3)]) (σ1 := σ) rfl h4 ?_
          refine go_n 2 (f := (53, [some (.int x0), none, none, none], [.int 1, .int (((365 * (x0 - 1600)) + (((x0 - 1600) + 3) / 4)) - z3)], σ)) rfl ?_
          refine go_e (L1 := [some (.int x0), none, none, none]) rfl rfl ?_
          simp only [if_neg h4] at hJ9
          first | exact hJ9 | (simp only [if_neg h4]; exact hJ9)
    · by_cases h2 : x0 ≤ 1700
      · refine go_it (t := 39) (f := 35) (L1 := [some (.int x0), some (.int x1), some (.int (x0 - 1600)), some (.int ((365 * (x0 - 1600)) + (((x0 - 1600) + 3) / 4)))]) (st1 := [.int ((365 * (x0 - 1600)) + (((x0 - 1600) + 3) / 4))]) (σ1 := σ) rfl h2 ?_
        refine go_n 1 (f := (40, [some (.int x0), some (.int x1), some (.int (x0 - 1600)), some (.int ((365 * (x0 - 1600)) + (((x0 - 1600) + 3) / 4)))], [.int 0, .int ((365 * (x0 - 1600)) + (((x0 - 1600) + 3) / 4))], σ)) rfl ?_
        refine go_e (L1 := [some (.int x0), none, none, none]) rfl rfl ?_
        simp only [if_pos h2] at hJ10
        first | exact hJ10 | (simp only [if_pos h2]; exact hJ10)
      · refine go_if (t := 39) (f := 35) (L1 := [some (.int x0), some (.int x1), some (.int (x0 - 1600)), some (.int ((365 * (x0 - 1600)) + (((x0 - 1600) + 3) / 4)))]) (st1 := [.int ((365 * (x0 - 1600)) + (((x0 - 1600) + 3) / 4))]) (σ1 := σ) rfl h2 ?_
        refine go_n 2 (f := (40, [some (.int x0), some (.int x1), some (.int (x0 - 1600)), some (.int ((365 * (x0 - 1600)) + (((x0 - 1600) + 3) / 4)))], [.int 1, .int ((365 * (x0 - 1600)) + (((x0 - 1600) + 3) / 4))], σ)) rfl ?_
        refine go_e (L1 := [some (.int x0), none, none, none]) rfl rfl ?_
        simp only [if_neg h2] at hJ10
        first | exact hJ10 | (simp only [if_neg h2]; exact hJ10)
  · rw [if_neg h1] at hf
    refine go_if (t := 27) (f := 22) (L1 := [some (.int x0), some (.int x1), some (.int (x0 - 1600)), some (.int ((365 * (x0 - 1600)) + (((x0 - 1600) + 3) / 4)))]) (st1 := []) (σ1 := σ) rfl h1 ?_
    refine go_n 3 (f := (26, [some (.int x0), some (.int x1), some (.int (x0 - 1600)), some (.int ((365 * (x0 - 1600)) + (((x0 - 1600) + 3) / 4)))], [.int (((365 * (x0 - 1600)) + (((x0 - 1600) + 3) / 4)) + 10)], σ)) rfl ?_
    cases hf
    exact go_r rfl
/-! OldWeather.isDay(I)Z -/
def fX0_isDay (x0 : Int32) : Option Int32 :=
  (fX0_in x0 0 109999).bind fun q1 => if am_ok 3 q1 = true then some q1 else none
set_option maxHeartbeats 1500000 in
theorem fX0_isDay_ok (x0 : Int32) (σ : Sg) (r : Int32) (hf : fX0_isDay x0 = some r) : Cl true 1 5128 [.int x0] σ (.inl (some (.int r)), σ) := by
  refine ⟨iX0_isDay, rfl, Nat.le_of_ble_eq_true rfl, Nat.le_of_ble_eq_true rfl, ?_⟩
  show Go true 1 iX0_isDay (0, [some (.int x0)], [], σ) (.inl (some (.int r)), σ)
  unfold fX0_isDay at hf
  refine go_n 3 (f := (4, [some (.int x0)], [.int 109999, .int 0, .int x0], σ)) rfl ?_
  obtain ⟨q1, h2, hf⟩ := bnd hf
  refine go_c (mid := 5122) (args := [.int x0, .int 0, .int 109999]) (pc := 7) (L := [some (.int x0)]) (st := []) (σ := σ) rfl ((fX0_in_ok _ _ _ _ q1 h2).deep (Nat.le_of_ble_eq_true rfl)) ?_
  obtain ⟨h3, hf⟩ := grd hf
  cases hf
  exact go_ret rfl rfl (Or.inr (Or.inl ⟨rfl, h3⟩))
/-! OldWeather.yearOf(II)I -/
def fX0_yearOf_L17 (x0 : Int32) (x1 : Int32)  (rec17 : Int32 → Option Int32) (x2 : Int32) : Option Int32 :=
  if 1901 ≤ x2 then some x2 else (fX0_yearBegins (x2 + 1) x1).bind fun q4 => if x0 < q4 then some x2 else rec17 (x2 + 1)
set_option maxHeartbeats 1500000 in
theorem fX0_yearOf_L17_ok (x0 : Int32) (x1 : Int32) (σ : Sg)   : ∀ (n : Nat) (x2 : Int32) (r : Int32), lp (fX0_yearOf_L17 x0 x1 ) n x2 = some r → Go true 1 iX0_yearOf (17, [some (.int x0), some (.int x1), some (.int x2)], [], σ) (.inl (some (.int r)), σ) := by
  intro n
  induction n with
  | zero => intro x2 r hf; cases hf
  | succ n ih =>
    intro x2 r hf
    have hf : fX0_yearOf_L17 x0 x1  (lp (fX0_yearOf_L17 x0 x1 ) n) x2 = some r := hf
    have hrec17 := ih
    generalize lp (fX0_yearOf_L17 x0 x1 ) n = rec17 at hf hrec17
    unfold fX0_yearOf_L17 at hf
    refine go_n 2 (f := (21, [some (.int x0), some (.int x1), some (.int x2)], [.int 1901, .int x2], σ)) rfl ?_
    by_cases h3 : 1901 ≤ x2
    · rw [if_pos h3] at hf
      refine go_it (t := 41) (f := 24) (L1 := [some (.int x0), some (.int x1), some (.int x2)]) (st1 := []) (σ1 := σ) rfl h3 ?_
      refine go_e (L1 := [none, none, some (.int x2)]) rfl rfl ?_
      refine go_n 1 (f := (42, [none, none, some (.int x2)], [.int x2], σ)) rfl ?_
      cases hf
      exact go_r rfl
    · rw [if_neg h3] at hf
      refine go_if (t := 41) (f := 24) (L1 := [some (.int x0), some (.int x1), some (.int x2)]) (st1 := []) (σ1 := σ) rfl h3 ?_
      refine go_n 4 (f := (28, [some (.int x0), some (.int x1), some (.int x2)], [.int x1, .int (x2 + 1)], σ)) rfl ?_
      obtain ⟨q4, h5, hf⟩ := bnd hf
      refine go_c (mid := 5127) (args := [.int (x2 + 1), .int x1]) (pc := 31) (L := [some (.int x0), some (.int x1), some (.int x2)]) (st := []) (σ := σ) rfl ((fX0_yearBegins_ok _ _ _ q4 h5).deep (Nat.le_of_ble_eq_true rfl)) ?_
      refine go_n 1 (f := (32, [some (.int x0), some (.int x1), some (.int x2)], [.int x0, .int q4], σ)) rfl ?_
      by_cases h6 : x0 < q4
      · rw [if_pos h6] at hf
        refine go_it (t := 41) (f := 35) (L1 := [some (.int x0), some (.int x1), some (.int x2)]) (st1 := []) (σ1 := σ) rfl h6 ?_
        refine go_e (L1 := [none, none, some (.int x2)]) rfl rfl ?_
        refine go_n 1 (f := (42, [none, none, some (.int x2)], [.int x2], σ)) rfl ?_
        cases hf
        exact go_r rfl
      · rw [if_neg h6] at hf
        refine go_if (t := 41) (f := 35) (L1 := [some (.int x0), some (.int x1), some (.int x2)]) (st1 := []) (σ1 := σ) rfl h6 ?_
        refine go_n 2 (f := (17, [some (.int x0), some (.int x1), some (.int (x2 + 1))], [], σ)) rfl ?_
        exact hrec17 _ _ hf
def fX0_yearOf (x0 : Int32) (x1 : Int32) : Option Int32 :=
  (fJ5_max 0 (x0 - 10)).bind fun q1 => lp (fX0_yearOf_L17 x0 x1 ) N0 (1600 + (q1 / 366))
set_option maxHeartbeats 1500000 in
theorem fX0_yearOf_ok (x0 : Int32) (x1 : Int32) (σ : Sg) (r : Int32) (hf : fX0_yearOf x0 x1 = some r) : Cl true 1 5130 [.int x0, .int x1] σ (.inl (some (.int r)), σ) := by
  refine ⟨iX0_yearOf, rfl, Nat.le_of_ble_eq_true rfl, Nat.le_of_ble_eq_true rfl, ?_⟩
  show Go true 1 iX0_yearOf (0, [some (.int x0), some (.int x1), none], [], σ) (.inl (some (.int r)), σ)
  unfold fX0_yearOf at hf
  refine go_n 5 (f := (8, [some (.int x0), some (.int x1), none], [.int (x0 - 10), .int 0, .int 1600], σ)) rfl ?_
  obtain ⟨q1, h2, hf⟩ := bnd hf
  refine go_c (mid := 3584) (args := [.int 0, .int (x0 - 10)]) (pc := 11) (L := [some (.int x0), some (.int x1), none]) (st := [.int 1600]) (σ := σ) rfl ((fJ5_max_ok _ _ _ q1 h2).deep (Nat.le_of_ble_eq_true rfl)) ?_
  refine go_n 1 (f := (14, [some (.int x0), some (.int x1), none], [.int 366, .int q1, .int 1600], σ)) rfl ?_
  refine go_idiv rfl rfl (by decide) ?_
  refine go_n 2 (f := (17, [some (.int x0), some (.int x1), some (.int (1600 + (q1 / 366)))], [], σ)) rfl ?_
  exact fX0_yearOf_L17_ok _ _ _   N0 _ _ hf
/-! OldWeather.refuse(I)I -/
def fX0_refuse (x1 : Int32) (σ : Sg) : Option (Int32 × Sg) :=
  some (x1, (wi σ 0 0 x1))
set_option maxHeartbeats 1500000 in
theorem fX0_refuse_ok (x1 : Int32) (σ : Sg) (r : (Int32 × Sg)) (hf : fX0_refuse x1 σ = some r) : Cl true 0 5133 [.ref 0, .int x1] σ (.inl (some (.int (r).1)), (r).2) := by
  refine ⟨iX0_refuse, rfl, Nat.le_of_ble_eq_true rfl, Nat.le_of_ble_eq_true rfl, ?_⟩
  show Go true 0 iX0_refuse (0, [some (.ref 0), some (.int x1)], [], σ) (.inl (some (.int (r).1)), (r).2)
  unfold fX0_refuse at hf
  refine go_n 4 (f := (6, [some (.ref 0), some (.int x1)], [.int x1], (wi σ 0 0 x1))) rfl ?_
  cases hf
  exact go_r rfl
/-! OldWeather.done(I)I -/
def fX0_done (x1 : Int32) (σ : Sg) : Option (Int32 × Sg) :=
  some (x1, (wi σ 0 0 0))
set_option maxHeartbeats 1500000 in
theorem fX0_done_ok (x1 : Int32) (σ : Sg) (r : (Int32 × Sg)) (hf : fX0_done x1 σ = some r) : Cl true 0 5134 [.ref 0, .int x1] σ (.inl (some (.int (r).1)), (r).2) := by
  refine ⟨iX0_done, rfl, Nat.le_of_ble_eq_true rfl, Nat.le_of_ble_eq_true rfl, ?_⟩
  show Go true 0 iX0_done (0, [some (.ref 0), some (.int x1)], [], σ) (.inl (some (.int (r).1)), (r).2)
  unfold fX0_done at hf
  refine go_n 4 (f := (6, [some (.ref 0), some (.int x1)], [.int x1], (wi σ 0 0 0))) rfl ?_
  cases hf
  exact go_r rfl
/-! OldWeather.told(I)I -/
def fX0_told (x1 : Int32) (σ : Sg) : Option (Int32 × Sg) :=
  (fX0_done x1 (wi σ 0 1 ((gi σ 0 1) + 1))).bind fun q1 => some (q1.1, q1.2)
set_option maxHeartbeats 1500000 in
theorem fX0_told_ok (x1 : Int32) (σ : Sg) (r : (Int32 × Sg)) (hf : fX0_told x1 σ = some r) : Cl true 1 5136 [.ref 0, .int x1] σ (.inl (some (.int (r).1)), (r).2) := by
  refine ⟨iX0_told, rfl, Nat.le_of_ble_eq_true rfl, Nat.le_of_ble_eq_true rfl, ?_⟩
  show Go true 1 iX0_told (0, [some (.ref 0), some (.int x1)], [], σ) (.inl (some (.int (r).1)), (r).2)
  unfold fX0_told at hf
  refine go_n 8 (f := (12, [some (.ref 0), some (.int x1)], [.int x1, .ref 0], (wi σ 0 1 ((gi σ 0 1) + 1)))) rfl ?_
  obtain ⟨q1, h2, hf⟩ := bnd hf
  refine go_c (mid := 5134) (args := [.ref 0, .int x1]) (pc := 15) (L := [some (.ref 0), some (.int x1)]) (st := []) (σ := (wi σ 0 1 ((gi σ 0 1) + 1))) rfl ((fX0_done_ok _ _ q1 h2).deep (Nat.le_of_ble_eq_true rfl)) ?_
  cases hf
  exact go_r rfl
/-! OldWeather.place(I)I -/
def fX0_place_L101 (x2 : Int32)  (rec101 : (Int32 × Sg) → Option (Int32 × Sg)) (s : Int32 × Sg) : Option (Int32 × Sg) :=
  match s with
  | (x3, σ) => if 12 ≤ x3 then (fX0_told x2 (wi σ 1 18 ((gi σ 1 18) + 1))).bind fun q8 => some (q8.1, q8.2) else ((fun (z11 : Int32) => if inb ((12 * x2) + x3) 144 then if inb ((12 * x3) + x2) 144 then rec101 ((x3 + 1), (wi (wi σ 13 ((12 * x2) + x3).toNatClampNeg z11) 13 ((12 * x3) + x2).toNatClampNeg z11)) else none else none) ((if x2 ≠ x3 then 0 else 100) : Int32))
set_option maxHeartbeats 1500000 in
theorem fX0_place_L101_ok (x2 : Int32)   : ∀ (n : Nat) (x3 : Int32) (σ : Sg) (r : (Int32 × Sg)), lp (fX0_place_L101 x2 ) n (x3, σ) = some r → Go true 2 iX0_place (101, [some (.ref 0), none, some (.int x2), some (.int x3)], [], σ) (.inl (some (.int (r).1)), (r).2) := by
  intro n
  induction n with
  | zero => intro x3 σ r hf; cases hf
  | succ n ih =>
    intro x3 σ r hf
    have hf : fX0_place_L101 x2  (lp (fX0_place_L101 x2 ) n) (x3, σ) = some r := hf
    have hrec101 := ih
    generalize lp (fX0_place_L101 x2 ) n = rec101 at hf hrec101
    unfold fX0_place_L101 at hf
    dsimp only at hf
    refine go_n 2 (f := (104, [some (.ref 0), none, some (.int x2), some (.int x3)], [.int 12, .int x3], σ)) rfl ?_
    by_cases h7 : 12 ≤ x3
    · rw [if_pos h7] at hf
      refine go_it (t := 163) (f := 107) (L1 := [some (.ref 0), none, some (.int x2), some (.int x3)]) (st1 := []) (σ1 := σ) rfl h7 ?_
      refine go_n 9 (f := (178, [some (.ref 0), none, some (.int x2), some (.int x3)], [.int x2, .ref 0], (wi σ 1 18 ((gi σ 1 18) + 1)))) rfl ?_
      obtain ⟨q8, h9, hf⟩ := bnd hf
      refine go_c (mid := 5136) (args := [.ref 0, .int x2]) (pc := 181) (L := [some (.ref 0), none, some (.int x2), some (.int x3)]) (st := []) (σ := (wi σ 1 18 ((gi σ 1 18) + 1))) rfl ((fX0_told_ok _ _ q8 h9).deep (Nat.le_of_ble_eq_true rfl)) ?_
      cases hf
      exact go_r rfl
    · rw [if_neg h7] at hf
      refine go_if (t := 163) (f := 107) (L1 := [some (.ref 0), none, some (.int x2), some (.int x3)]) (st1 := []) (σ1 := σ) rfl h7 ?_
      refine go_n 10 (f := (122, [some (.ref 0), none, some (.int x2), some (.int x3)], [.int x3, .int x2, .int ((12 * x2) + x3), .ref 13], σ)) rfl ?_
      refine go_m (f := (131, [some (.ref 0), none, some (.int x2), some (.int x3)], [.int ((if x2 ≠ x3 then 0 else 100) : Int32), .int ((12 * x2) + x3), .ref 13], σ)) ?_ (fun hJ17 => ?_)
      · generalize hz11 : ((if x2 ≠ x3 then 0 else 100) : Int32) = z11 at hf ⊢
        try dsimp only at hf
        obtain ⟨h12, hf⟩ := grd hf
        refine go_iast rfl rfl rfl h12 ?_
        refine go_n 10 (f := (147, [some (.ref 0), none, some (.int x2), some (.int x3)], [.int x3, .int x2, .int ((12 * x3) + x2), .ref 13], (wi σ 13 ((12 * x2) + x3).toNatClampNeg z11))) rfl ?_
        refine go_m (f := (156, [some (.ref 0), none, some (.int x2), some (.int x3)], [.int ((if x2 ≠ x3 then 0 else 100) : Int32), .int ((12 * x3) + x2), .ref 13], (wi σ 13 ((12 * x2) + x3).toNatClampNeg z11))) ?_ (fun hJ16 => ?_)
        · rw [hz11]
          obtain ⟨h15, hf⟩ := grd hf
          refine go_iast rfl rfl rfl h15 ?_
          refine go_n 2 (f := (101, [some (.ref 0), none, some (.int x2), some (.int (x3 + 1))], [], (wi (wi σ 13 ((12 * x2) + x3).toNatClampNeg z11) 13 ((12 * x3) + x2).toNatClampNeg z11))) rfl ?_
          exact hrec101 _ _ _ hf
        · by_cases h13 : x2 ≠ x3
          · refine go_it (t := 155) (f := 150) (L1 := [some (.ref 0), none, some (.int x2), some (.int x3)]) (st1 := [.int ((12 * x3) + x2), .ref 13]) (σ1 := (wi σ 13 ((12 * x2) + x3).toNatClampNeg z11)) rfl h13 ?_
            refine go_n 1 (f := (156, [some (.ref 0), none, some (.int x2), some (.int x3)], [.int 0, .int ((12 * x3) + x2), .ref 13], (wi σ 13 ((12 * x2) + x3).toNatClampNeg z11))) rfl ?_
            refine go_e (L1 := [some (.ref 0), none, some (.int x2), some (.int x3)]) rfl rfl ?_
            simp only [if_pos h13] at hJ16
            first | exact hJ16 | (simp only [if_pos h13]; exact hJ16)
          · refine go_if (t := 155) (f := 150) (L1 := [some (.ref 0), none, some (.int x2), some (.int x3)]) (st1 := [.int ((12 * x3) + x2), .ref 13]) (σ1 := (wi σ 13 ((12 * x2) + x3).toNatClampNeg z11)) rfl h13 ?_
            refine go_n 2 (f := (156, [some (.ref 0), none, some (.int x2), some (.int x3)], [.int 100, .int ((12 * x3) + x2), .ref 13], (wi σ 13 ((12 * x2) + x3).toNatClampNeg z11))) rfl ?_
            refine go_e (L1 := [some (.ref 0), none, some (.int x2), some (.int x3)]) rfl rfl ?_
            simp only [if_neg h13] at hJ16
            first | exact hJ16 | (simp only [if_neg h13]; exact hJ16)
      · by_cases h10 : x2 ≠ x3
        · refine go_it (t := 130) (f := 125) (L1 := [some (.ref 0), none, some (.int x2), some (.int x3)]) (st1 := [.int ((12 * x2) + x3), .ref 13]) (σ1 := σ) rfl h10 ?_
          refine go_n 1 (f := (131, [some (.ref 0), none, some (.int x2), some (.int x3)], [.int 0, .int ((12 * x2) + x3), .ref 13], σ)) rfl ?_
          refine go_e (L1 := [some (.ref 0), none, some (.int x2), some (.int x3)]) rfl rfl ?_
          simp only [if_pos h10] at hJ17
          first | exact hJ17 | (simp only [if_pos h10]; exact hJ17)
        · refine go_if (t := 130) (f := 125) (L1 := [some (.ref 0), none, some (.int x2), some (.int x3)]) (st1 := [.int ((12 * x2) + x3), .ref 13]) (σ1 := σ) rfl h10 ?_
          refine go_n 2 (f := (131, [some (.ref 0), none, some (.int x2), some (.int x3)], [.int 100, .int ((12 * x2) + x3), .ref 13], σ)) rfl ?_
          refine go_e (L1 := [some (.ref 0), none, some (.int x2), some (.int x3)]) rfl rfl ?_
          simp only [if_neg h10] at hJ17
          first | exact hJ17 | (simp only [if_neg h10]; exact hJ17)
def fX0_place_L56 (x2 : Int32)  (rec56 : (Int32 × Sg) → Option (Int32 × Sg)) (s : Int32 × Sg) : Option (Int32 × Sg) :=
  match s with
  | (x3, σ) => if 12 ≤ x3 then lp (fX0_place_L101 x2 ) N0 (0, σ) else if inb ((12 * x2) + x3) 144 then if inb ((12 * x2) + x3) 144 then rec56 ((x3 + 1), (wi (wi σ 11 ((12 * x2) + x3).toNatClampNeg 0) 12 ((12 * x2) + x3).toNatClampNeg 100)) else none else none
set_option maxHeartbeats 1500000 in
theorem fX0_place_L56_ok (x2 : Int32)   : ∀ (n : Nat) (x3 : Int32) (σ : Sg) (r : (Int32 × Sg)), lp (fX0_place_L56 x2 ) n (x3, σ) = some r → Go true 2 iX0_place (56, [some (.ref 0), none, some (.int x2), some (.int x3)], [], σ) (.inl (some (.int (r).1)), (r).2) := by
  intro n
  induction n with
  | zero => intro x3 σ r hf; cases hf
  | succ n ih =>
    intro x3 σ r hf
    have hf : fX0_place_L56 x2  (lp (fX0_place_L56 x2 ) n) (x3, σ) = some r := hf
    have hrec56 := ih
    generalize lp (fX0_place_L56 x2 ) n = rec56 at hf hrec56
    unfold fX0_place_L56 at hf
    dsimp only at hf
    refine go_n 2 (f := (59, [some (.ref 0), none, some (.int x2), some (.int x3)], [.int 12, .int x3], σ)) rfl ?_
    by_cases h6 : 12 ≤ x3
    · rw [if_pos h6] at hf
      refine go_it (t := 99) (f := 62) (L1 := [some (.ref 0), none, some (.int x2), some (.int x3)]) (st1 := []) (σ1 := σ) rfl h6 ?_
      refine go_n 2 (f := (101, [some (.ref 0), none, some (.int x2), some (.int 0)], [], σ)) rfl ?_
      exact fX0_place_L101_ok _   N0 _ _ _ hf
    · rw [if_neg h6] at hf
      refine go_if (t := 99) (f := 62) (L1 := [some (.ref 0), none, some (.int x2), some (.int x3)]) (st1 := []) (σ1 := σ) rfl h6 ?_
      refine go_n 9 (f := (76, [some (.ref 0), none, some (.int x2), some (.int x3)], [.int 0, .int ((12 * x2) + x3), .ref 11], σ)) rfl ?_
      obtain ⟨h18, hf⟩ := grd hf
      refine go_iast rfl rfl rfl h18 ?_
      refine go_n 9 (f := (92, [some (.ref 0), none, some (.int x2), some (.int x3)], [.int 100, .int ((12 * x2) + x3), .ref 12], (wi σ 11 ((12 * x2) + x3).toNatClampNeg 0))) rfl ?_
      obtain ⟨h19, hf⟩ := grd hf
      refine go_iast rfl rfl rfl h19 ?_
      refine go_n 2 (f := (56, [some (.ref 0), none, some (.int x2), some (.int (x3 + 1))], [], (wi (wi σ 11 ((12 * x2) + x3).toNatClampNeg 0) 12 ((12 * x2) + x3).toNatClampNeg 100))) rfl ?_
      exact hrec56 _ _ _ hf
def fX0_place (x1 : Int32) (σ : Sg) : Option (Int32 × Sg) :=
  (fX0_in x1 0 4000).bind fun q1 => if q1 ≠ 0 then if (gi σ 1 18) ≠ 12 then if inb (gi σ 1 18) 12 then lp (fX0_place_L56 (gi σ 1 18) ) N0 (0, (wi σ 10 (gi σ 1 18).toNatClampNeg x1)) else none else (fX0_refuse (-5) σ).bind fun q20 => some (q20.1, q20.2) else (fX0_refuse (-1) σ).bind fun q22 => some (q22.1, q22.2)
set_option maxHeartbeats 1500000 in
theorem fX0_place_ok (x1 : Int32) (σ : Sg) (r : (Int32 × Sg)) (hf : fX0_place x1 σ = some r) : Cl true 2 5137 [.ref 0, .int x1] σ (.inl (some (.int (r).1)), (r).2) := by
  refine ⟨iX0_place, rfl, Nat.le_of_ble_eq_true rfl, Nat.le_of_ble_eq_true rfl, ?_⟩
  show Go true 2 iX0_place (0, [some (.ref 0), some (.int x1), none, none], [], σ) (.inl (some (.int (r).1)), (r).2)
  unfold fX0_place at hf
  refine go_n 3 (f := (5, [some (.ref 0), some (.int x1), none, none], [.int 4000, .int 0, .int x1], σ)) rfl ?_
  obtain ⟨q1, h2, hf⟩ := bnd hf
  refine go_c (mid := 5122) (args := [.int x1, .int 0, .int 4000]) (pc := 8) (L := [some (.ref 0), some (.int x1), none, none]) (st := []) (σ := σ) rfl ((fX0_in_ok _ _ _ _ q1 h2).deep (Nat.le_of_ble_eq_true rfl)) ?_
  by_cases h3 : q1 ≠ 0
  · rw [if_pos h3] at hf
    refine go_it (t := 17) (f := 11) (L1 := [some (.ref 0), some (.int x1), none, none]) (st1 := []) (σ1 := σ) rfl h3 ?_
    refine go_n 4 (f := (26, [some (.ref 0), some (.int x1), none, none], [.int 12, .int (gi σ 1 18)], σ)) rfl ?_
    by_cases h4 : (gi σ 1 18) ≠ 12
    · rw [if_pos h4] at hf
      refine go_it (t := 36) (f := 29) (L1 := [some (.ref 0), some (.int x1), none, none]) (st1 := []) (σ1 := σ) rfl h4 ?_
      refine go_n 9 (f := (53, [some (.ref 0), some (.int x1), some (.int (gi σ 1 18)), none], [.int x1, .int (gi σ 1 18), .ref 10], σ)) rfl ?_
      obtain ⟨h5, hf⟩ := grd hf
      refine go_iast rfl rfl rfl h5 ?_
      refine go_n 2 (f := (56, [some (.ref 0), some (.int x1), some (.int (gi σ 1 18)), some (.int 0)], [], (wi σ 10 (gi σ 1 18).toNatClampNeg x1))) rfl ?_
      refine go_e (L1 := [some (.ref 0), none, some (.int (gi σ 1 18)), some (.int 0)]) rfl rfl ?_
      exact fX0_place_L56_ok _   N0 _ _ _ hf
    · rw [if_neg h4] at hf
      refine go_if (t := 36) (f := 29) (L1 := [some (.ref 0), some (.int x1), none, none]) (st1 := []) (σ1 := σ) rfl h4 ?_
      refine go_n 2 (f := (32, [some (.ref 0), some (.int x1), none, none], [.int (-5), .ref 0], σ)) rfl ?_
      obtain ⟨q20, h21, hf⟩ := bnd hf
      refine go_c (mid := 5133) (args := [.ref 0, .int (-5)]) (pc := 35) (L := [some (.ref 0), some (.int x1), none, none]) (st := []) (σ := σ) rfl ((fX0_refuse_ok _ _ q20 h21).deep (Nat.le_of_ble_eq_true rfl)) ?_
      cases hf
      exact go_r rfl
  · rw [if_neg h3] at hf
    refine go_if (t := 17) (f := 11) (L1 := [some (.ref 0), some (.int x1), none, none]) (st1 := []) (σ1 := σ) rfl h3 ?_
    refine go_n 2 (f := (13, [some (.ref 0), some (.int x1), none, none], [.int (-1), .ref 0], σ)) rfl ?_
    obtain ⟨q22, h23, hf⟩ := bnd hf
    refine go_c (mid := 5133) (args := [.ref 0, .int (-1)]) (pc := 16) (L := [some (.ref 0), some (.int x1), none, none]) (st := []) (σ := σ) rfl ((fX0_refuse_ok _ _ q22 h23).deep (Nat.le_of_ble_eq_true rfl)) ?_
    cases hf
    exact go_r rfl
/-! OldWeather.isPlace(I)Z -/
def fX0_isPlace (x1 : Int32) (σ : Sg) : Option Int32 :=
  (fX0_in x1 0 ((gi σ 1 18) - 1)).bind fun q1 => if am_ok 3 q1 = true then some q1 else none
set_option maxHeartbeats 1500000 in
theorem fX0_isPlace_ok (x1 : Int32) (σ : Sg) (r : Int32) (hf : fX0_isPlace x1 σ = some r) : Cl true 1 5139 [.ref 0, .int x1] σ (.inl (some (.int r)), σ) := by
  refine ⟨iX0_isPlace, rfl, Nat.le_of_ble_eq_true rfl, Nat.le_of_ble_eq_true rfl, ?_⟩
  show Go true 1 iX0_isPlace (0, [some (.ref 0), some (.int x1)], [], σ) (.inl (some (.int r)), σ)
  unfold fX0_isPlace at hf
  refine go_n 7 (f := (11, [some (.ref 0), some (.int x1)], [.int ((gi σ 1 18) - 1), .int 0, .int x1], σ)) rfl ?_
  obtain ⟨q1, h2, hf⟩ := bnd hf
  refine go_c (mid := 5122) (args := [.int x1, .int 0, .int ((gi σ 1 18) - 1)]) (pc := 14) (L := [some (.ref 0), some (.int x1)]) (st := []) (σ := σ) rfl ((fX0_in_ok _ _ _ _ q1 h2).deep (Nat.le_of_ble_eq_true rfl)) ?_
  obtain ⟨h3, hf⟩ := grd hf
  cases hf
  exact go_ret rfl rfl (Or.inr (Or.inl ⟨rfl, h3⟩))
/-! OldWeather.like(III)I -/
def fX0_like_J32   (σ : Sg) : Option (Int32 × Sg) :=
  (fX0_refuse (-2) σ).bind fun q7 => some (q7.1, q7.2)
set_option maxHeartbeats 1500000 in
theorem fX0_like_J32_ok   (σ : Sg)  (r : (Int32 × Sg)) (hf : fX0_like_J32   σ = some r) : Go true 2 iX0_like (32, [some (.ref 0), none, none, none], [], σ) (.inl (some (.int (r).1)), (r).2) := by
  unfold fX0_like_J32 at hf
  refine go_n 2 (f := (35, [some (.ref 0), none, none, none], [.int (-2), .ref 0], σ)) rfl ?_
  obtain ⟨q7, h8, hf⟩ := bnd hf
  refine go_c (mid := 5133) (args := [.ref 0, .int (-2)]) (pc := 38) (L := [some (.ref 0), none, none, none]) (st := []) (σ := σ) rfl ((fX0_refuse_ok _ _ q7 h8).deep (Nat.le_of_ble_eq_true rfl)) ?_
  cases hf
  exact go_r rfl
def fX0_like (x1 : Int32) (x2 : Int32) (x3 : Int32) (σ : Sg) : Option (Int32 × Sg) :=
  (fX0_in x3 0 100).bind fun q1 => if q1 ≠ 0 then (fX0_isPlace x1 σ).bind fun q4 => if q4 = 0 then fX0_like_J32   σ else (fX0_isPlace x2 σ).bind fun q9 => if q9 ≠ 0 then if x1 ≠ x2 then if inb ((12 * x1) + x2) 144 then if inb ((12 * x2) + x1) 144 then (fX0_told 0 (wi (wi σ 13 ((12 * x1) + x2).toNatClampNeg x3) 13 ((12 * x2) + x1).toNatClampNeg x3)).bind fun q15 => some (q15.1, q15.2) else none else none else (fX0_refuse (-3) σ).bind fun q17 => some (q17.1, q17.2) else fX0_like_J32   σ else (fX0_refuse (-1) σ).bind fun q19 => some (q19.1, q19.2)
set_option maxHeartbeats 1500000 in
theorem fX0_like_ok (x1 : Int32) (x2 : Int32) (x3 : Int32) (σ : Sg) (r : (Int32 × Sg)) (hf : fX0_like x1 x2 x3 σ = some r) : Cl true 2 5140 [.ref 0, .int x1, .int x2, .int x3] σ (.inl (some (.int (r).1)), (r).2) := by
  refine ⟨iX0_like, rfl, Nat.le_of_ble_eq_true rfl, Nat.le_of_ble_eq_true rfl, ?_⟩
  show Go true 2 iX0_like (0, [some (.ref 0), some (.int x1), some (.int x2), some (.int x3)], [], σ) (.inl (some (.int (r).1)), (r).2)
  unfold fX0_like at hf
  refine go_n 3 (f := (4, [some (.ref 0), some (.int x1), some (.int x2), some (.int x3)], [.int 100, .int 0, .int x3], σ)) rfl ?_
  obtain ⟨q1, h2, hf⟩ := bnd hf
  refine go_c (mid := 5122) (args := [.int x3, .int 0, .int 100]) (pc := 7) (L := [some (.ref 0), some (.int x1), some (.int x2), some (.int x3)]) (st := []) (σ := σ) rfl ((fX0_in_ok _ _ _ _ q1 h2).deep (Nat.le_of_ble_eq_true rfl)) ?_
  by_cases h3 : q1 ≠ 0
  · rw [if_pos h3] at hf
    refine go_it (t := 16) (f := 10) (L1 := [some (.ref 0), some (.int x1), some (.int x2), some (.int x3)]) (st1 := []) (σ1 := σ) rfl h3 ?_
    refine go_n 2 (f := (18, [some (.ref 0), some (.int x1), some (.int x2), some (.int x3)], [.int x1, .ref 0], σ)) rfl ?_
    obtain ⟨q4, h5, hf⟩ := bnd hf
    refine go_c (mid := 5139) (args := [.ref 0, .int x1]) (pc := 21) (L := [some (.ref 0), some (.int x1), some (.int x2), some (.int x3)]) (st := []) (σ := σ) rfl ((fX0_isPlace_ok _ _ q4 h5).deep (Nat.le_of_ble_eq_true rfl)) ?_
    by_cases h6 : q4 = 0
    · rw [if_pos h6] at hf
      refine go_it (t := 32) (f := 24) (L1 := [some (.ref 0), some (.int x1), some (.int x2), some (.int x3)]) (st1 := []) (σ1 := σ) rfl h6 ?_
      refine go_e (L1 := [some (.ref 0), none, none, none]) rfl rfl ?_
      exact fX0_like_J32_ok   _  _ hf
    · rw [if_neg h6] at hf
      refine go_if (t := 32) (f := 24) (L1 := [some (.ref 0), some (.int x1), some (.int x2), some (.int x3)]) (st1 := []) (σ1 := σ) rfl h6 ?_
      refine go_n 2 (f := (26, [some (.ref 0), some (.int x1), some (.int x2), some (.int x3)], [.int x2, .ref 0], σ)) rfl ?_
      obtain ⟨q9, h10, hf⟩ := bnd hf
      refine go_c (mid := 5139) (args := [.ref 0, .int x2]) (pc := 29) (L := [some (.ref 0), some (.int x1), some (.int x2), some (.int x3)]) (st := []) (σ := σ) rfl ((fX0_isPlace_ok _ _ q9 h10).deep (Nat.le_of_ble_eq_true rfl)) ?_
      by_cases h11 : q9 ≠ 0
      · rw [if_pos h11] at hf
        refine go_it (t := 39) (f := 32) (L1 := [some (.ref 0), some (.int x1), some (.int x2), some (.int x3)]) (st1 := []) (σ1 := σ) rfl h11 ?_
        refine go_n 2 (f := (41, [some (.ref 0), some (.int x1), some (.int x2), some (.int x3)], [.int x2, .int x1], σ)) rfl ?_
        by_cases h12 : x1 ≠ x2
        · rw [if_pos h12] at hf
          refine go_it (t := 51) (f := 44) (L1 := [some (.ref 0), some (.int x1), some (.int x2), some (.int x3)]) (st1 := []) (σ1 := σ) rfl h12 ?_
          refine go_n 9 (f := (65, [some (.ref 0), some (.int x1), some (.int x2), some (.int x3)], [.int x3, .int ((12 * x1) + x2), .ref 13], σ)) rfl ?_
          obtain ⟨h13, hf⟩ := grd hf
          refine go_iast rfl rfl rfl h13 ?_
          refine go_n 9 (f := (80, [some (.ref 0), some (.int x1), some (.int x2), some (.int x3)], [.int x3, .int ((12 * x2) + x1), .ref 13], (wi σ 13 ((12 * x1) + x2).toNatClampNeg x3))) rfl ?_
          obtain ⟨h14, hf⟩ := grd hf
          refine go_iast rfl rfl rfl h14 ?_
          refine go_n 2 (f := (83, [some (.ref 0), some (.int x1), some (.int x2), some (.int x3)], [.int 0, .ref 0], (wi (wi σ 13 ((12 * x1) + x2).toNatClampNeg x3) 13 ((12 * x2) + x1).toNatClampNeg x3))) rfl ?_
          obtain ⟨q15, h16, hf⟩ := bnd hf
          refine go_c (mid := 5136) (args := [.ref 0, .int 0]) (pc := 86) (L := [some (.ref 0), some (.int x1), some (.int x2), some (.int x3)]) (st := []) (σ := (wi (wi σ 13 ((12 * x1) + x2).toNatClampNeg x3) 13 ((12 * x2) + x1).toNatClampNeg x3)) rfl ((fX0_told_ok _ _ q15 h16).deep (Nat.le_of_ble_eq_true rfl)) ?_
          cases hf
          exact go_r rfl
        · rw [if_neg h12] at hf
          refine go_if (t := 51) (f := 44) (L1 := [some (.ref 0), some (.int x1), some (.int x2), some (.int x3)]) (st1 := []) (σ1 := σ) rfl h12 ?_
          refine go_n 2 (f := (47, [some (.ref 0), some (.int x1), some (.int x2), some (.int x3)], [.int (-3), .ref 0], σ)) rfl ?_
          obtain ⟨q17, h18, hf⟩ := bnd hf
          refine go_c (mid := 5133) (args := [.ref 0, .int (-3)]) (pc := 50) (L := [some (.ref 0), some (.int x1), some (.int x2), some (.int x3)]) (st := []) (σ := σ) rfl ((fX0_refuse_ok _ _ q17 h18).deep (Nat.le_of_ble_eq_true rfl)) ?_
          cases hf
          exact go_r rfl
      · rw [if_neg h11] at hf
        refine go_if (t := 39) (f := 32) (L1 := [some (.ref 0), some (.int x1), some (.int x2), some (.int x3)]) (st1 := []) (σ1 := σ) rfl h11 ?_
        refine go_e (L1 := [some (.ref 0), none, none, none]) rfl rfl ?_
        exact fX0_like_J32_ok   _  _ hf
  · rw [if_neg h3] at hf
    refine go_if (t := 16) (f := 10) (L1 := [some (.ref 0), some (.int x1), some (.int x2), some (.int x3)]) (st1 := []) (σ1 := σ) rfl h3 ?_
    refine go_n 2 (f := (12, [some (.ref 0), some (.int x1), some (.int x2), some (.int x3)], [.int (-1), .ref 0], σ)) rfl ?_
    obtain ⟨q19, h20, hf⟩ := bnd hf
    refine go_c (mid := 5133) (args := [.ref 0, .int (-1)]) (pc := 15) (L := [some (.ref 0), some (.int x1), some (.int x2), some (.int x3)]) (st := []) (σ := σ) rfl ((fX0_refuse_ok _ _ q19 h20).deep (Nat.le_of_ble_eq_true rfl)) ?_
    cases hf
    exact go_r rfl
/-! OldWeather.source(II)I -/
def fX0_source (x1 : Int32) (x2 : Int32) (σ : Sg) : Option (Int32 × Sg) :=
  (fX0_in x1 0 7).bind fun q1 => if q1 ≠ 0 then (fX0_isPlace x2 σ).bind fun q4 => if q4 ≠ 0 then if (gi σ 1 19) ≠ 16 then if inb (gi σ 1 19) 16 then if inb (gi σ 1 19) 16 then if inb (gi σ 1 19) 16 then if inb (gi σ 1 19) 16 then (fX0_told (gi σ 1 19) (wi (wi (wi (wi (wi σ 14 (gi σ 1 19).toNatClampNeg x1) 15 (gi σ 1 19).toNatClampNeg x2) 16 (gi σ 1 19).toNatClampNeg (-1)) 17 (gi σ 1 19).toNatClampNeg (-1)) 1 19 ((gi σ 1 19) + 1))).bind fun q12 => some (q12.1, q12.2) else none else none else none else none else (fX0_refuse (-5) σ).bind fun q14 => some (q14.1, q14.2) else (fX0_refuse (-2) σ).bind fun q16 => some (q16.1, q16.2) else (fX0_refuse (-1) σ).bind fun q18 => some (q18.1, q18.2)
set_option maxHeartbeats 1500000 in
theorem fX0_source_ok (x1 : Int32) (x2 : Int32) (σ : Sg) (r : (Int32 × Sg)) (hf : fX0_source x1 x2 σ = some r) : Cl true 2 5141 [.ref 0, .int x1, .int x2] σ (.inl (some (.int (r).1)), (r).2) := by
  refine ⟨iX0_source, rfl, Nat.le_of_ble_eq_true rfl, Nat.le_of_ble_eq_true rfl, ?_⟩
  show Go true 2 iX0_source (0, [some (.ref 0), some (.int x1), some (.int x2), none], [], σ) (.inl (some (.int (r).1)), (r).2)
  unfold fX0_source at hf
  refine go_n 3 (f := (4, [some (.ref 0), some (.int x1), some (.int x2), none], [.int 7, .int 0, .int x1], σ)) rfl ?_
  obtain ⟨q1, h2, hf⟩ := bnd hf
  refine go_c (mid := 5122) (args := [.int x1, .int 0, .int 7]) (pc := 7) (L := [some (.ref 0), some (.int x1), some (.int x2), none]) (st := []) (σ := σ) rfl ((fX0_in_ok _ _ _ _ q1 h2).deep (Nat.le_of_ble_eq_true rfl)) ?_
  by_cases h3 : q1 ≠ 0
  · rw [if_pos h3] at hf
    refine go_it (t := 16) (f := 10) (L1 := [some (.ref 0), some (.int x1), some (.int x2), none]) (st1 := []) (σ1 := σ) rfl h3 ?_
    refine go_n 2 (f := (18, [some (.ref 0), some (.int x1), some (.int x2), none], [.int x2, .ref 0], σ)) rfl ?_
    obtain ⟨q4, h5, hf⟩ := bnd hf
    refine go_c (mid := 5139) (args := [.ref 0, .int x2]) (pc := 21) (L := [some (.ref 0), some (.int x1), some (.int x2), none]) (st := []) (σ := σ) rfl ((fX0_isPlace_ok _ _ q4 h5).deep (Nat.le_of_ble_eq_true rfl)) ?_
    by_cases h6 : q4 ≠ 0
    · rw [if_pos h6] at hf
      refine go_it (t := 31) (f := 24) (L1 := [some (.ref 0), some (.int x1), some (.int x2), none]) (st1 := []) (σ1 := σ) rfl h6 ?_
      refine go_n 4 (f := (40, [some (.ref 0), some (.int x1), some (.int x2), none], [.int 16, .int (gi σ 1 19)], σ)) rfl ?_
      by_cases h7 : (gi σ 1 19) ≠ 16
      · rw [if_pos h7] at hf
        refine go_it (t := 50) (f := 43) (L1 := [some (.ref 0), some (.int x1), some (.int x2), none]) (st1 := []) (σ1 := σ) rfl h7 ?_
        refine go_n 9 (f := (67, [some (.ref 0), some (.int x1), some (.int x2), some (.int (gi σ 1 19))], [.int x1, .int (gi σ 1 19), .ref 14], σ)) rfl ?_
        obtain ⟨h8, hf⟩ := grd hf
        refine go_iast rfl rfl rfl h8 ?_
        refine go_n 5 (f := (77, [some (.ref 0), some (.int x1), some (.int x2), some (.int (gi σ 1 19))], [.int x2, .int (gi σ 1 19), .ref 15], (wi σ 14 (gi σ 1 19).toNatClampNeg x1))) rfl ?_
        obtain ⟨h9, hf⟩ := grd hf
        refine go_iast rfl rfl rfl h9 ?_
        refine go_n 5 (f := (87, [some (.ref 0), some (.int x1), some (.int x2), some (.int (gi σ 1 19))], [.int (-1), .int (gi σ 1 19), .ref 16], (wi (wi σ 14 (gi σ 1 19).toNatClampNeg x1) 15 (gi σ 1 19).toNatClampNeg x2))) rfl ?_
        obtain ⟨h10, hf⟩ := grd hf
        refine go_iast rfl rfl rfl h10 ?_
        refine go_n 5 (f := (97, [some (.ref 0), some (.int x1), some (.int x2), some (.int (gi σ 1 19))], [.int (-1), .int (gi σ 1 19), .ref 17], (wi (wi (wi σ 14 (gi σ 1 19).toNatClampNeg x1) 15 (gi σ 1 19).toNatClampNeg x2) 16 (gi σ 1 19).toNatClampNeg (-1)))) rfl ?_
        obtain ⟨h11, hf⟩ := grd hf
        refine go_iast rfl rfl rfl h11 ?_
        refine go_n 9 (f := (113, [some (.ref 0), some (.int x1), some (.int x2), some (.int (gi σ 1 19))], [.int (gi σ 1 19), .ref 0], (wi (wi (wi (wi (wi σ 14 (gi σ 1 19).toNatClampNeg x1) 15 (gi σ 1 19).toNatClampNeg x2) 16 (gi σ 1 19).toNatClampNeg (-1)) 17 (gi σ 1 19).toNatClampNeg (-1)) 1 19 ((gi σ 1 19) + 1)))) rfl ?_
        obtain ⟨q12, h13, hf⟩ := bnd hf
        refine go_c (mid := 5136) (args := [.ref 0, .int (gi σ 1 19)]) (pc := 116) (L := [some (.ref 0), some (.int x1), some (.int x2), some (.int (gi σ 1 19))]) (st := []) (σ := (wi (wi (wi (wi (wi σ 14 (gi σ 1 19).toNatClampNeg x1) 15 (gi σ 1 19).toNatClampNeg x2) 16 (gi σ 1 19).toNatClampNeg (-1)) 17 (gi σ 1 19).toNatClampNeg (-1)) 1 19 ((gi σ 1 19) + 1))) rfl ((fX0_told_ok _ _ q12 h13).deep (Nat.le_of_ble_eq_true rfl)) ?_
        cases hf
        exact go_r rfl
      · rw [if_neg h7] at hf
        refine go_if (t := 50) (f := 43) (L1 := [some (.ref 0), some (.int x1), some (.int x2), none]) (st1 := []) (σ1 := σ) rfl h7 ?_
        refine go_n 2 (f := (46, [some (.ref 0), some (.int x1), some (.int x2), none], [.int (-5), .ref 0], σ)) rfl ?_
        obtain ⟨q14, h15, hf⟩ := bnd hf
        refine go_c (mid := 5133) (args := [.ref 0, .int (-5)]) (pc := 49) (L := [some (.ref 0), some (.int x1), some (.int x2), none]) (st := []) (σ := σ) rfl ((fX0_refuse_ok _ _ q14 h15).deep (Nat.le_of_ble_eq_true rfl)) ?_
        cases hf
        exact go_r rfl
    · rw [if_neg h6] at hf
      refine go_if (t := 31) (f := 24) (L1 := [some (.ref 0), some (.int x1), some (.int x2), none]) (st1 := []) (σ1 := σ) rfl h6 ?_
      refine go_n 2 (f := (27, [some (.ref 0), some (.int x1), some (.int x2), none], [.int (-2), .ref 0], σ)) rfl ?_
      obtain ⟨q16, h17, hf⟩ := bnd hf
      refine go_c (mid := 5133) (args := [.ref 0, .int (-2)]) (pc := 30) (L := [some (.ref 0), some (.int x1), some (.int x2), none]) (st := []) (σ := σ) rfl ((fX0_refuse_ok _ _ q16 h17).deep (Nat.le_of_ble_eq_true rfl)) ?_
      cases hf
      exact go_r rfl
  · rw [if_neg h3] at hf
    refine go_if (t := 16) (f := 10) (L1 := [some (.ref 0), some (.int x1), some (.int x2), none]) (st1 := []) (σ1 := σ) rfl h3 ?_
    refine go_n 2 (f := (12, [some (.ref 0), some (.int x1), some (.int x2), none], [.int (-1), .ref 0], σ)) rfl ?_
    obtain ⟨q18, h19, hf⟩ := bnd hf
    refine go_c (mid := 5133) (args := [.ref 0, .int (-1)]) (pc := 15) (L := [some (.ref 0), some (.int x1), some (.int x2), none]) (st := []) (σ := σ) rfl ((fX0_refuse_ok _ _ q18 h19).deep (Nat.le_of_ble_eq_true rfl)) ?_
    cases hf
    exact go_r rfl
/-! OldWeather.isSource(I)Z -/
def fX0_isSource (x1 : Int32) (σ : Sg) : Option Int32 :=
  (fX0_in x1 0 ((gi σ 1 19) - 1)).bind fun q1 => if am_ok 3 q1 = true then some q1 else none
set_option maxHeartbeats 1500000 in
theorem fX0_isSource_ok (x1 : Int32) (σ : Sg) (r : Int32) (hf : fX0_isSource x1 σ = some r) : Cl true 1 5143 [.ref 0, .int x1] σ (.inl (some (.int r)), σ) := by
  refine ⟨iX0_isSource, rfl, Nat.le_of_ble_eq_true rfl, Nat.le_of_ble_eq_true rfl, ?_⟩
  show Go true 1 iX0_isSource (0, [some (.ref 0), some (.int x1)], [], σ) (.inl (some (.int r)), σ)
  unfold fX0_isSource at hf
  refine go_n 7 (f := (11, [some (.ref 0), some (.int x1)], [.int ((gi σ 1 19) - 1), .int 0, .int x1], σ)) rfl ?_
  obtain ⟨q1, h2, hf⟩ := bnd hf
  refine go_c (mid := 5122) (args := [.int x1, .int 0, .int ((gi σ 1 19) - 1)]) (pc := 14) (L := [some (.ref 0), some (.int x1)]) (st := []) (σ := σ) rfl ((fX0_in_ok _ _ _ _ q1 h2).deep (Nat.le_of_ble_eq_true rfl)) ?_
  obtain ⟨h3, hf⟩ := grd hf
  cases hf
  exact go_ret rfl rfl (Or.inr (Or.inl ⟨rfl, h3⟩))
/-! OldWeather.stopped(I)I -/
def fX0_stopped (x1 : Int32) (σ : Sg) : Option Int32 :=
  (fX0_isSource x1 σ).bind fun q1 => if q1 = 0 then some (-1) else if inb x1 16 then some (gi σ 17 x1.toNatClampNeg) else none
set_option maxHeartbeats 1500000 in
theorem fX0_stopped_ok (x1 : Int32) (σ : Sg) (r : Int32) (hf : fX0_stopped x1 σ = some r) : Cl true 2 5144 [.ref 0, .int x1] σ (.inl (some (.int r)), σ) := by
  refine ⟨iX0_stopped, rfl, Nat.le_of_ble_eq_true rfl, Nat.le_of_ble_eq_true rfl, ?_⟩
  show Go true 2 iX0_stopped (0, [some (.ref 0), some (.int x1)], [], σ) (.inl (some (.int r)), σ)
  unfold fX0_stopped at hf
  refine go_n 2 (f := (2, [some (.ref 0), some (.int x1)], [.int x1, .ref 0], σ)) rfl ?_
  obtain ⟨q1, h2, hf⟩ := bnd hf
  refine go_c (mid := 5143) (args := [.ref 0, .int x1]) (pc := 5) (L := [some (.ref 0), some (.int x1)]) (st := []) (σ := σ) rfl ((fX0_isSource_ok _ _ q1 h2).deep (Nat.le_of_ble_eq_true rfl)) ?_
  by_cases h3 : q1 = 0
  · rw [if_pos h3] at hf
    refine go_it (t := 20) (f := 8) (L1 := [some (.ref 0), some (.int x1)]) (st1 := []) (σ1 := σ) rfl h3 ?_
    refine go_n 1 (f := (21, [some (.ref 0), some (.int x1)], [.int (-1)], σ)) rfl ?_
    refine go_e (L1 := [none, none]) rfl rfl ?_
    cases hf
    exact go_r rfl
  · rw [if_neg h3] at hf
    refine go_if (t := 20) (f := 8) (L1 := [some (.ref 0), some (.int x1)]) (st1 := []) (σ1 := σ) rfl h3 ?_
    refine go_n 4 (f := (16, [some (.ref 0), some (.int x1)], [.int x1, .ref 17], σ)) rfl ?_
    obtain ⟨h4, hf⟩ := grd hf
    refine go_iald rfl rfl rfl h4 ?_
    refine go_n 1 (f := (21, [some (.ref 0), some (.int x1)], [.int (gi σ 17 x1.toNatClampNeg)], σ)) rfl ?_
    refine go_e (L1 := [none, none]) rfl rfl ?_
    cases hf
    exact go_r rfl
/-! OldWeather.isDesk(I)Z -/
def fX0_isDesk (x0 : Int32) : Option Int32 :=
  (fX0_in x0 0 9999).bind fun q1 => if am_ok 3 q1 = true then some q1 else none
set_option maxHeartbeats 1500000 in
theorem fX0_isDesk_ok (x0 : Int32) (σ : Sg) (r : Int32) (hf : fX0_isDesk x0 = some r) : Cl true 1 5147 [.int x0] σ (.inl (some (.int r)), σ) := by
  refine ⟨iX0_isDesk, rfl, Nat.le_of_ble_eq_true rfl, Nat.le_of_ble_eq_true rfl, ?_⟩
  show Go true 1 iX0_isDesk (0, [some (.int x0)], [], σ) (.inl (some (.int r)), σ)
  unfold fX0_isDesk at hf
  refine go_n 3 (f := (5, [some (.int x0)], [.int 9999, .int 0, .int x0], σ)) rfl ?_
  obtain ⟨q1, h2, hf⟩ := bnd hf
  refine go_c (mid := 5122) (args := [.int x0, .int 0, .int 9999]) (pc := 8) (L := [some (.int x0)]) (st := []) (σ := σ) rfl ((fX0_in_ok _ _ _ _ q1 h2).deep (Nat.le_of_ble_eq_true rfl)) ?_
  obtain ⟨h3, hf⟩ := grd hf
  cases hf
  exact go_ret rfl rfl (Or.inr (Or.inl ⟨rfl, h3⟩))
/-! OldWeather.isReading(I)Z -/
def fX0_isReading (x1 : Int32) (σ : Sg) : Option Int32 :=
  if x1 < 0 then some 0 else (fJ2_size 2 σ).bind fun q2 => ((fun (z5 : Int32) => some z5) ((if q2 ≤ x1 then 0 else 1) : Int32))
set_option maxHeartbeats 1500000 in
theorem fX0_isReading_ok (x1 : Int32) (σ : Sg) (r : Int32) (hf : fX0_isReading x1 σ = some r) : Cl true 1 5153 [.ref 0, .int x1] σ (.inl (some (.int r)), σ) := by
  refine ⟨iX0_isReading, rfl, Nat.le_of_ble_eq_true rfl, Nat.le_of_ble_eq_true rfl, ?_⟩
  show Go true 1 iX0_isReading (0, [some (.ref 0), some (.int x1)], [], σ) (.inl (some (.int r)), σ)
  unfold fX0_isReading at hf
  refine go_n 1 (f := (1, [some (.ref 0), some (.int x1)], [.int x1], σ)) rfl ?_
  by_cases h1 : x1 < 0
  · rw [if_pos h1] at hf
    refine go_it (t := 22) (f := 4) (L1 := [some (.ref 0), some (.int x1)]) (st1 := []) (σ1 := σ) rfl h1 ?_
    refine go_e (L1 := [none, none]) rfl rfl ?_
    refine go_n 1 (f := (23, [none, none], [.int 0], σ)) rfl ?_
    cases hf
    exact go_r rfl
  · rw [if_neg h1] at hf
    refine go_if (t := 22) (f := 4) (L1 := [some (.ref 0), some (.int x1)]) (st1 := []) (σ1 := σ) rfl h1 ?_
    refine go_n 4 (f := (12, [some (.ref 0), some (.int x1)], [.ref 2, .int x1], σ)) rfl ?_
    obtain ⟨q2, h3, hf⟩ := bnd hf
    refine go_c (mid := 2821) (args := [.ref 2]) (pc := 15) (L := [some (.ref 0), some (.int x1)]) (st := [.int x1]) (σ := σ) rfl ((fJ2_size_ok _ _ q2 h3).deep (Nat.le_of_ble_eq_true rfl)) ?_
    refine go_m (f := (23, [none, none], [.int ((if q2 ≤ x1 then 0 else 1) : Int32)], σ)) ?_ (fun hJ6 => ?_)
    · generalize hz5 : ((if q2 ≤ x1 then 0 else 1) : Int32) = z5 at hf ⊢
      have oz5 : am_ok 3 z5 = true := hz5 ▸ (okb rfl rfl)
      try dsimp only at hf
      cases hf
      exact go_ret rfl rfl (Or.inr (Or.inl ⟨rfl, oz5⟩))
    · by_cases h4 : q2 ≤ x1
      · refine go_it (t := 22) (f := 18) (L1 := [some (.ref 0), some (.int x1)]) (st1 := []) (σ1 := σ) rfl h4 ?_
        refine go_e (L1 := [none, none]) rfl rfl ?_
        refine go_n 1 (f := (23, [none, none], [.int 0], σ)) rfl ?_
        refine go_e (L1 := [none, none]) rfl rfl ?_
        simp only [if_pos h4] at hJ6
        first | exact hJ6 | (simp only [if_pos h4]; exact hJ6)
      · refine go_if (t := 22) (f := 18) (L1 := [some (.ref 0), some (.int x1)]) (st1 := []) (σ1 := σ) rfl h4 ?_
        refine go_n 2 (f := (23, [some (.ref 0), some (.int x1)], [.int 1], σ)) rfl ?_
        refine go_e (L1 := [none, none]) rfl rfl ?_
        simp only [if_neg h4] at hJ6
        first | exact hJ6 | (simp only [if_neg h4]; exact hJ6)
/-! OldWeather.strike(II)I -/
def fX0_strike (x1 : Int32) (x2 : Int32) (σ : Sg) : Option (Int32 × Sg) :=
  (fX0_isDesk x2).bind fun q1 => if q1 ≠ 0 then (fX0_isReading x1 σ).bind fun q4 => if q4 ≠ 0 then if inb x1 200 then if (gi σ 19 x1.toNatClampNeg) = (-1) then if inb x1 200 then (fX0_told 0 (wi σ 19 x1.toNatClampNeg x2)).bind fun q10 => some (q10.1, q10.2) else none else (fX0_refuse (-4) σ).bind fun q12 => some (q12.1, q12.2) else none else (fX0_refuse (-2) σ).bind fun q14 => some (q14.1, q14.2) else (fX0_refuse (-1) σ).bind fun q16 => some (q16.1, q16.2)
set_option maxHeartbeats 1500000 in
theorem fX0_strike_ok (x1 : Int32) (x2 : Int32) (σ : Sg) (r : (Int32 × Sg)) (hf : fX0_strike x1 x2 σ = some r) : Cl true 2 5154 [.ref 0, .int x1, .int x2] σ (.inl (some (.int (r).1)), (r).2) := by
  refine ⟨iX0_strike, rfl, Nat.le_of_ble_eq_true rfl, Nat.le_of_ble_eq_true rfl, ?_⟩
  show Go true 2 iX0_strike (0, [some (.ref 0), some (.int x1), some (.int x2)], [], σ) (.inl (some (.int (r).1)), (r).2)
  unfold fX0_strike at hf
  refine go_n 1 (f := (1, [some (.ref 0), some (.int x1), some (.int x2)], [.int x2], σ)) rfl ?_
  obtain ⟨q1, h2, hf⟩ := bnd hf
  refine go_c (mid := 5147) (args := [.int x2]) (pc := 4) (L := [some (.ref 0), some (.int x1), some (.int x2)]) (st := []) (σ := σ) rfl ((fX0_isDesk_ok _ _ q1 h2).deep (Nat.le_of_ble_eq_true rfl)) ?_
  by_cases h3 : q1 ≠ 0
  · rw [if_pos h3] at hf
    refine go_it (t := 13) (f := 7) (L1 := [some (.ref 0), some (.int x1), some (.int x2)]) (st1 := []) (σ1 := σ) rfl h3 ?_
    refine go_n 2 (f := (15, [some (.ref 0), some (.int x1), some (.int x2)], [.int x1, .ref 0], σ)) rfl ?_
    obtain ⟨q4, h5, hf⟩ := bnd hf
    refine go_c (mid := 5153) (args := [.ref 0, .int x1]) (pc := 18) (L := [some (.ref 0), some (.int x1), some (.int x2)]) (st := []) (σ := σ) rfl ((fX0_isReading_ok _ _ q4 h5).deep (Nat.le_of_ble_eq_true rfl)) ?_
    by_cases h6 : q4 ≠ 0
    · rw [if_pos h6] at hf
      refine go_it (t := 28) (f := 21) (L1 := [some (.ref 0), some (.int x1), some (.int x2)]) (st1 := []) (σ1 := σ) rfl h6 ?_
      refine go_n 4 (f := (36, [some (.ref 0), some (.int x1), some (.int x2)], [.int x1, .ref 19], σ)) rfl ?_
      obtain ⟨h7, hf⟩ := grd hf
      refine go_iald rfl rfl rfl h7 ?_
      refine go_n 1 (f := (38, [some (.ref 0), some (.int x1), some (.int x2)], [.int (-1), .int (gi σ 19 x1.toNatClampNeg)], σ)) rfl ?_
      by_cases h8 : (gi σ 19 x1.toNatClampNeg) = (-1)
      · rw [if_pos h8] at hf
        refine go_it (t := 48) (f := 41) (L1 := [some (.ref 0), some (.int x1), some (.int x2)]) (st1 := []) (σ1 := σ) rfl h8 ?_
        refine go_n 5 (f := (57, [some (.ref 0), some (.int x1), some (.int x2)], [.int x2, .int x1, .ref 19], σ)) rfl ?_
        obtain ⟨h9, hf⟩ := grd hf
        refine go_iast rfl rfl rfl h9 ?_
        refine go_n 2 (f := (60, [some (.ref 0), some (.int x1), some (.int x2)], [.int 0, .ref 0], (wi σ 19 x1.toNatClampNeg x2))) rfl ?_
        obtain ⟨q10, h11, hf⟩ := bnd hf
        refine go_c (mid := 5136) (args := [.ref 0, .int 0]) (pc := 63) (L := [some (.ref 0), some (.int x1), some (.int x2)]) (st := []) (σ := (wi σ 19 x1.toNatClampNeg x2)) rfl ((fX0_told_ok _ _ q10 h11).deep (Nat.le_of_ble_eq_true rfl)) ?_
        cases hf
        exact go_r rfl
      · rw [if_neg h8] at hf
        refine go_if (t := 48) (f := 41) (L1 := [some (.ref 0), some (.int x1), some (.int x2)]) (st1 := []) (σ1 := σ) rfl h8 ?_
        refine go_n 2 (f := (44, [some (.ref 0), some (.int x1), some (.int x2)], [.int (-4), .ref 0], σ)) rfl ?_
        obtain ⟨q12, h13, hf⟩ := bnd hf
        refine go_c (mid := 5133) (args := [.ref 0, .int (-4)]) (pc := 47) (L := [some (.ref 0), some (.int x1), some (.int x2)]) (st := []) (σ := σ) rfl ((fX0_refuse_ok _ _ q12 h13).deep (Nat.le_of_ble_eq_true rfl)) ?_
        cases hf
        exact go_r rfl
    · rw [if_neg h6] at hf
      refine go_if (t := 28) (f := 21) (L1 := [some (.ref 0), some (.int x1), some (.int x2)]) (st1 := []) (σ1 := σ) rfl h6 ?_
      refine go_n 2 (f := (24, [some (.ref 0), some (.int x1), some (.int x2)], [.int (-2), .ref 0], σ)) rfl ?_
      obtain ⟨q14, h15, hf⟩ := bnd hf
      refine go_c (mid := 5133) (args := [.ref 0, .int (-2)]) (pc := 27) (L := [some (.ref 0), some (.int x1), some (.int x2)]) (st := []) (σ := σ) rfl ((fX0_refuse_ok _ _ q14 h15).deep (Nat.le_of_ble_eq_true rfl)) ?_
      cases hf
      exact go_r rfl
  · rw [if_neg h3] at hf
    refine go_if (t := 13) (f := 7) (L1 := [some (.ref 0), some (.int x1), some (.int x2)]) (st1 := []) (σ1 := σ) rfl h3 ?_
    refine go_n 2 (f := (9, [some (.ref 0), some (.int x1), some (.int x2)], [.int (-1), .ref 0], σ)) rfl ?_
    obtain ⟨q16, h17, hf⟩ := bnd hf
    refine go_c (mid := 5133) (args := [.ref 0, .int (-1)]) (pc := 12) (L := [some (.ref 0), some (.int x1), some (.int x2)]) (st := []) (σ := σ) rfl ((fX0_refuse_ok _ _ q16 h17).deep (Nat.le_of_ble_eq_true rfl)) ?_
    cases hf
    exact go_r rfl
/-! OldWeather.tenths(F)I -/
def fX0_tenths_J59 (s0 : Int32)  : Option Int32 :=
  (fX0_in s0 (-600) 600).bind fun q8 => ((fun (z11 : Int32) => some z11) (if q8 = 0 then (-100000) else s0))
set_option maxHeartbeats 1500000 in
theorem fX0_tenths_J59_ok (s0 : Int32)  (σ : Sg)  (r : Int32) (hf : fX0_tenths_J59 s0  = some r) : Go true 1 iX0_tenths (59, [none, none, none, none], [.int s0], σ) (.inl (some (.int r)), σ) := by
  unfold fX0_tenths_J59 at hf
  refine go_n 4 (f := (67, [none, none, none, some (.int s0)], [.int 600, .int (-600), .int s0], σ)) rfl ?_
  obtain ⟨q8, h9, hf⟩ := bnd hf
  refine go_c (mid := 5122) (args := [.int s0, .int (-600), .int 600]) (pc := 70) (L := [none, none, none, some (.int s0)]) (st := []) (σ := σ) rfl ((fX0_in_ok _ _ _ _ q8 h9).deep (Nat.le_of_ble_eq_true rfl)) ?_
  refine go_m (f := (80, [none, none, none, none], [.int (if q8 = 0 then (-100000) else s0)], σ)) ?_ (fun hJ12 => ?_)
  · generalize hz11 : (if q8 = 0 then (-100000) else s0) = z11 at hf ⊢
    try dsimp only at hf
    cases hf
    exact go_r rfl
  · by_cases h10 : q8 = 0
    · refine go_it (t := 77) (f := 73) (L1 := [none, none, none, some (.int s0)]) (st1 := []) (σ1 := σ) rfl h10 ?_
      refine go_n 1 (f := (80, [none, none, none, some (.int s0)], [.int (-100000)], σ)) rfl ?_
      refine go_e (L1 := [none, none, none, none]) rfl rfl ?_
      simp only [if_pos h10] at hJ12
      first | exact hJ12 | (simp only [if_pos h10]; exact hJ12)
    · refine go_if (t := 77) (f := 73) (L1 := [none, none, none, some (.int s0)]) (st1 := []) (σ1 := σ) rfl h10 ?_
      refine go_n 2 (f := (80, [none, none, none, some (.int s0)], [.int s0], σ)) rfl ?_
      refine go_e (L1 := [none, none, none, none]) rfl rfl ?_
      simp only [if_neg h10] at hJ12
      first | exact hJ12 | (simp only [if_neg h10]; exact hJ12)
def fX0_tenths (x0 : UInt32) : Option Int32 :=
  if (Op.cmpValue (FP.fcmp x0 x0) .l) = 0 then if am_n64 (FP.f2d x0) = true then if am_n64 (FP.dmul 4621819117588971520 (FP.f2d x0)) = true then if (Op.cmpValue (FP.dcmp (FP.dmul 4621819117588971520 (FP.f2d x0)) 13879882945323335680) .l) ≤ 0 then some (-100000) else if (Op.cmpValue (FP.dcmp (FP.dmul 4621819117588971520 (FP.f2d x0)) 4656510908468559872) .g) < 0 then if 0 ≤ (Op.cmpValue (FP.dcmp (FP.dmul 4621819117588971520 (FP.f2d x0)) FP.dconst0) .g) then if am_n64 (FP.dadd (FP.dmul 4621819117588971520 (FP.f2d x0)) 4602678819172646912) = true then fX0_tenths_J59 (FP.d2i (FP.dadd (FP.dmul 4621819117588971520 (FP.f2d x0)) 4602678819172646912))   else none else if am_n64 (FP.dsub 4602678819172646912 (FP.dmul 4621819117588971520 (FP.f2d x0))) = true then fX0_tenths_J59 (-(FP.d2i (FP.dsub 4602678819172646912 (FP.dmul 4621819117588971520 (FP.f2d x0)))))   else none else some (-100000) else none else none else some (-100000)
set_option maxHeartbeats 1500000 in
theorem fX0_tenths_ok (x0 : UInt32) (σ : Sg) (r : Int32) (hf : fX0_tenths x0 = some r) : Cl true 1 5156 [.float x0] σ (.inl (some (.int r)), σ) := by
  refine ⟨iX0_tenths, rfl, Nat.le_of_ble_eq_true rfl, Nat.le_of_ble_eq_true rfl, ?_⟩
  show Go true 1 iX0_tenths (0, [some (.float x0), none, none, none], [], σ) (.inl (some (.int r)), σ)
  unfold fX0_tenths at hf
  refine go_n 3 (f := (3, [some (.float x0), none, none, none], [.int (Op.cmpValue (FP.fcmp x0 x0) .l)], σ)) rfl ?_
  by_cases h1 : (Op.cmpValue (FP.fcmp x0 x0) .l) = 0
  · rw [if_pos h1] at hf
    refine go_it (t := 10) (f := 6) (L1 := [some (.float x0), none, none, none]) (st1 := []) (σ1 := σ) rfl h1 ?_
    refine go_n 2 (f := (14, [some (.float x0), none, none, none], [.float x0, .double 4621819117588971520], σ)) rfl ?_
    obtain ⟨h2, hf⟩ := grd hf
    refine go_f2d rfl rfl h2 ?_
    obtain ⟨h3, hf⟩ := grd hf
    refine go_dmul rfl rfl h3 ?_
    refine go_n 4 (f := (22, [some (.float x0), some (.double (FP.dmul 4621819117588971520 (FP.f2d x0))), none, none], [.int (Op.cmpValue (FP.dcmp (FP.dmul 4621819117588971520 (FP.f2d x0)) 13879882945323335680) .l)], σ)) rfl ?_
    by_cases h4 : (Op.cmpValue (FP.dcmp (FP.dmul 4621819117588971520 (FP.f2d x0)) 13879882945323335680) .l) ≤ 0
    · rw [if_pos h4] at hf
      refine go_it (t := 33) (f := 25) (L1 := [some (.float x0), some (.double (FP.dmul 4621819117588971520 (FP.f2d x0))), none, none]) (st1 := []) (σ1 := σ) rfl h4 ?_
      refine go_e (L1 := [none, none, none, none]) rfl rfl ?_
      refine go_n 1 (f := (36, [none, none, none, none], [.int (-100000)], σ)) rfl ?_
      cases hf
      exact go_r rfl
    · rw [if_neg h4] at hf
      refine go_if (t := 33) (f := 25) (L1 := [some (.float x0), some (.double (FP.dmul 4621819117588971520 (FP.f2d x0))), none, none]) (st1 := []) (σ1 := σ) rfl h4 ?_
      refine go_n 3 (f := (30, [some (.float x0), some (.double (FP.dmul 4621819117588971520 (FP.f2d x0))), none, none], [.int (Op.cmpValue (FP.dcmp (FP.dmul 4621819117588971520 (FP.f2d x0)) 4656510908468559872) .g)], σ)) rfl ?_
      by_cases h5 : (Op.cmpValue (FP.dcmp (FP.dmul 4621819117588971520 (FP.f2d x0)) 4656510908468559872) .g) < 0
      · rw [if_pos h5] at hf
        refine go_it (t := 37) (f := 33) (L1 := [some (.float x0), some (.double (FP.dmul 4621819117588971520 (FP.f2d x0))), none, none]) (st1 := []) (σ1 := σ) rfl h5 ?_
        refine go_n 3 (f := (40, [some (.float x0), some (.double (FP.dmul 4621819117588971520 (FP.f2d x0))), none, none], [.int (Op.cmpValue (FP.dcmp (FP.dmul 4621819117588971520 (FP.f2d x0)) FP.dconst0) .g)], σ)) rfl ?_
        by_cases h6 : 0 ≤ (Op.cmpValue (FP.dcmp (FP.dmul 4621819117588971520 (FP.f2d x0)) FP.dconst0) .g)
        · rw [if_pos h6] at hf
          refine go_it (t := 53) (f := 43) (L1 := [some (.float x0), some (.double (FP.dmul 4621819117588971520 (FP.f2d x0))), none, none]) (st1 := []) (σ1 := σ) rfl h6 ?_
          refine go_n 2 (f := (57, [some (.float x0), some (.double (FP.dmul 4621819117588971520 (FP.f2d x0))), none, none], [.double 4602678819172646912, .double (FP.dmul 4621819117588971520 (FP.f2d x0))], σ)) rfl ?_
          obtain ⟨h7, hf⟩ := grd hf
          refine go_dadd rfl rfl h7 ?_
          refine go_n 1 (f := (59, [some (.float x0), some (.double (FP.dmul 4621819117588971520 (FP.f2d x0))), none, none], [.int (FP.d2i (FP.dadd (FP.dmul 4621819117588971520 (FP.f2d x0)) 4602678819172646912))], σ)) rfl ?_
          refine go_e (L1 := [none, none, none, none]) rfl rfl ?_
          exact fX0_tenths_J59_ok _  _  _ hf
        · rw [if_neg h6] at hf
          refine go_if (t := 53) (f := 43) (L1 := [some (.float x0), some (.double (FP.dmul 4621819117588971520 (FP.f2d x0))), none, none]) (st1 := []) (σ1 := σ) rfl h6 ?_
          refine go_n 2 (f := (47, [some (.float x0), some (.double (FP.dmul 4621819117588971520 (FP.f2d x0))), none, none], [.double (FP.dmul 4621819117588971520 (FP.f2d x0)), .double 4602678819172646912], σ)) rfl ?_
          obtain ⟨h13, hf⟩ := grd hf
          refine go_dsub rfl rfl h13 ?_
          refine go_n 3 (f := (59, [some (.float x0), some (.double (FP.dmul 4621819117588971520 (FP.f2d x0))), none, none], [.int (-(FP.d2i (FP.dsub 4602678819172646912 (FP.dmul 4621819117588971520 (FP.f2d x0)))))], σ)) rfl ?_
          refine go_e (L1 := [none, none, none, none]) rfl rfl ?_
          exact fX0_tenths_J59_ok _  _  _ hf
      · rw [if_neg h5] at hf
        refine go_if (t := 37) (f := 33) (L1 := [some (.float x0), some (.double (FP.dmul 4621819117588971520 (FP.f2d x0))), none, none]) (st1 := []) (σ1 := σ) rfl h5 ?_
        refine go_e (L1 := [none, none, none, none]) rfl rfl ?_
        refine go_n 1 (f := (36, [none, none, none, none], [.int (-100000)], σ)) rfl ?_
        cases hf
        exact go_r rfl
  · rw [if_neg h1] at hf
    refine go_if (t := 10) (f := 6) (L1 := [some (.float x0), none, none, none]) (st1 := []) (σ1 := σ) rfl h1 ?_
    refine go_n 1 (f := (9, [some (.float x0), none, none, none], [.int (-100000)], σ)) rfl ?_
    cases hf
    exact go_r rfl
/-! OldWeather.four(I)V -/
def fX0_four_L3 (x1 : Int32)  (rec3 : (Int32 × Sg) → Option Sg) (s : Int32 × Sg) : Option Sg :=
  match s with
  | (x2, σ) => if x2 < 0 then some σ else if inb (gi σ 0 8) 400 then rec3 ((x2 + (-8)), (wi (wi σ 27 (gi σ 0 8).toNatClampNeg (am_nr 3 (x1 >>> (x2 &&& 31)).toInt8.toInt32)) 0 8 ((gi σ 0 8) + 1))) else none
set_option maxHeartbeats 1500000 in
theorem fX0_four_L3_ok (x1 : Int32)   : ∀ (n : Nat) (x2 : Int32) (σ : Sg) (r : Sg), lp (fX0_four_L3 x1 ) n (x2, σ) = some r → Go true 0 iX0_four (3, [some (.ref 0), some (.int x1), some (.int x2)], [], σ) (.inl none, r) := by
  intro n
  induction n with
  | zero => intro x2 σ r hf; cases hf
  | succ n ih =>
    intro x2 σ r hf
    have hf : fX0_four_L3 x1  (lp (fX0_four_L3 x1 ) n) (x2, σ) = some r := hf
    have hrec3 := ih
    generalize lp (fX0_four_L3 x1 ) n = rec3 at hf hrec3
    unfold fX0_four_L3 at hf
    dsimp only at hf
    refine go_n 1 (f := (4, [some (.ref 0), some (.int x1), some (.int x2)], [.int x2], σ)) rfl ?_
    by_cases h1 : x2 < 0
    · rw [if_pos h1] at hf
      refine go_it (t := 36) (f := 7) (L1 := [some (.ref 0), some (.int x1), some (.int x2)]) (st1 := []) (σ1 := σ) rfl h1 ?_
      cases hf
      exact go_r rfl
    · rw [if_neg h1] at hf
      refine go_if (t := 36) (f := 7) (L1 := [some (.ref 0), some (.int x1), some (.int x2)]) (st1 := []) (σ1 := σ) rfl h1 ?_
      refine go_n 8 (f := (19, [some (.ref 0), some (.int x1), some (.int x2)], [.int (x1 >>> (x2 &&& 31)).toInt8.toInt32, .int (gi σ 0 8), .ref 27], σ)) rfl ?_
      obtain ⟨h2, hf⟩ := grd hf
      refine go_bast rfl rfl (Or.inl rfl) h2 ?_
      refine go_n 7 (f := (33, [some (.ref 0), some (.int x1), some (.int (x2 + (-8)))], [], (wi (wi σ 27 (gi σ 0 8).toNatClampNeg (am_nr 3 (x1 >>> (x2 &&& 31)).toInt8.toInt32)) 0 8 ((gi σ 0 8) + 1)))) rfl ?_
      refine go_n 1 (f := (3, [some (.ref 0), some (.int x1), some (.int (x2 + (-8)))], [], (wi (wi σ 27 (gi σ 0 8).toNatClampNeg (am_nr 3 (x1 >>> (x2 &&& 31)).toInt8.toInt32)) 0 8 ((gi σ 0 8) + 1)))) rfl ?_
      exact hrec3 _ _ _ hf
def fX0_four (x1 : Int32) (σ : Sg) : Option Sg :=
  lp (fX0_four_L3 x1 ) N0 (24, σ)
set_option maxHeartbeats 1500000 in
theorem fX0_four_ok (x1 : Int32) (σ : Sg) (r : Sg) (hf : fX0_four x1 σ = some r) : Cl true 0 5162 [.ref 0, .int x1] σ (.inl none, r) := by
  refine ⟨iX0_four, rfl, Nat.le_of_ble_eq_true rfl, Nat.le_of_ble_eq_true rfl, ?_⟩
  show Go true 0 iX0_four (0, [some (.ref 0), some (.int x1), none], [], σ) (.inl none, r)
  unfold fX0_four at hf
  refine go_n 2 (f := (3, [some (.ref 0), some (.int x1), some (.int 24)], [], σ)) rfl ?_
  exact fX0_four_L3_ok _   N0 _ _ _ hf
/-! OldWeather.end(I)I -/
def fX0_end (x1 : Int32) (σ : Sg) : Option (Int32 × Sg) :=
  if x1 < 0 then some ((-1), σ) else if x1 ≤ (gi σ 0 8) then some (x1, (wi σ 0 8 x1)) else some ((-1), σ)
set_option maxHeartbeats 1500000 in
theorem fX0_end_ok (x1 : Int32) (σ : Sg) (r : (Int32 × Sg)) (hf : fX0_end x1 σ = some r) : Cl true 0 5163 [.ref 0, .int x1] σ (.inl (some (.int (r).1)), (r).2) := by
  refine ⟨iX0_end, rfl, Nat.le_of_ble_eq_true rfl, Nat.le_of_ble_eq_true rfl, ?_⟩
  show Go true 0 iX0_end (0, [some (.ref 0), some (.int x1)], [], σ) (.inl (some (.int (r).1)), (r).2)
  unfold fX0_end at hf
  refine go_n 1 (f := (1, [some (.ref 0), some (.int x1)], [.int x1], σ)) rfl ?_
  by_cases h1 : x1 < 0
  · rw [if_pos h1] at hf
    refine go_it (t := 12) (f := 4) (L1 := [some (.ref 0), some (.int x1)]) (st1 := []) (σ1 := σ) rfl h1 ?_
    refine go_e (L1 := [none, none]) rfl rfl ?_
    refine go_n 1 (f := (13, [none, none], [.int (-1)], σ)) rfl ?_
    cases hf
    exact go_r rfl
  · rw [if_neg h1] at hf
    refine go_if (t := 12) (f := 4) (L1 := [some (.ref 0), some (.int x1)]) (st1 := []) (σ1 := σ) rfl h1 ?_
    refine go_n 3 (f := (9, [some (.ref 0), some (.int x1)], [.int (gi σ 0 8), .int x1], σ)) rfl ?_
    by_cases h2 : x1 ≤ (gi σ 0 8)
    · rw [if_pos h2] at hf
      refine go_it (t := 14) (f := 12) (L1 := [some (.ref 0), some (.int x1)]) (st1 := []) (σ1 := σ) rfl h2 ?_
      refine go_n 4 (f := (20, [some (.ref 0), some (.int x1)], [.int x1], (wi σ 0 8 x1))) rfl ?_
      cases hf
      exact go_r rfl
    · rw [if_neg h2] at hf
      refine go_if (t := 14) (f := 12) (L1 := [some (.ref 0), some (.int x1)]) (st1 := []) (σ1 := σ) rfl h2 ?_
      refine go_e (L1 := [none, none]) rfl rfl ?_
      refine go_n 1 (f := (13, [none, none], [.int (-1)], σ)) rfl ?_
      cases hf
      exact go_r rfl
/-! OldWeather.fault()I -/
def fX0_fault  (σ : Sg) : Option Int32 :=
  some (gi σ 0 9)
set_option maxHeartbeats 1500000 in
theorem fX0_fault_ok  (σ : Sg) (r : Int32) (hf : fX0_fault  σ = some r) : Cl true 0 5165 [.ref 0] σ (.inl (some (.int r)), σ) := by
  refine ⟨iX0_fault, rfl, Nat.le_of_ble_eq_true rfl, Nat.le_of_ble_eq_true rfl, ?_⟩
  show Go true 0 iX0_fault (0, [some (.ref 0)], [], σ) (.inl (some (.int r)), σ)
  unfold fX0_fault at hf
  refine go_n 2 (f := (4, [some (.ref 0)], [.int (gi σ 0 9)], σ)) rfl ?_
  cases hf
  exact go_r rfl
/-! OldWeather.scale(III)I -/
def fX0_scale_J30   (σ : Sg) : Option (Int32 × Sg) :=
  (fX0_refuse (-1) σ).bind fun q4 => some (q4.1, q4.2)
set_option maxHeartbeats 1500000 in
theorem fX0_scale_J30_ok   (σ : Sg)  (r : (Int32 × Sg)) (hf : fX0_scale_J30   σ = some r) : Go true 2 iX0_scale (30, [some (.ref 0), none, none, none, none], [], σ) (.inl (some (.int (r).1)), (r).2) := by
  unfold fX0_scale_J30 at hf
  refine go_n 2 (f := (32, [some (.ref 0), none, none, none, none], [.int (-1), .ref 0], σ)) rfl ?_
  obtain ⟨q4, h5, hf⟩ := bnd hf
  refine go_c (mid := 5133) (args := [.ref 0, .int (-1)]) (pc := 35) (L := [some (.ref 0), none, none, none, none]) (st := []) (σ := σ) rfl ((fX0_refuse_ok _ _ q4 h5).deep (Nat.le_of_ble_eq_true rfl)) ?_
  cases hf
  exact go_r rfl
def fX0_scale_J78 (x1 : Int32) (x2 : Int32) (x3 : Int32) (x4 : Int32) (rec39 : Int32 → Option (Int32 × Sg)) (σ : Sg) : Option (Int32 × Sg) :=
  rec39 (x4 + 1)
set_option maxHeartbeats 1500000 in
theorem fX0_scale_J78_ok (x1 : Int32) (x2 : Int32) (x3 : Int32) (x4 : Int32) (rec39 : Int32 → Option (Int32 × Sg)) (σ : Sg) (hrec39 : ∀ (y4 : Int32) (r : (Int32 × Sg)), rec39 y4 = some r → Go true 2 iX0_scale (39, [some (.ref 0), some (.int x1), some (.int x2), some (.int x3), some (.int y4)], [], σ) (.inl (some (.int (r).1)), (r).2)) (r : (Int32 × Sg)) (hf : fX0_scale_J78 x1 x2 x3 x4 rec39 σ = some r) : Go true 2 iX0_scale (78, [some (.ref 0), some (.int x1), some (.int x2), some (.int x3), some (.int x4)], [], σ) (.inl (some (.int (r).1)), (r).2) := by
  unfold fX0_scale_J78 at hf
  refine go_n 2 (f := (39, [some (.ref 0), some (.int x1), some (.int x2), some (.int x3), some (.int (x4 + 1))], [], σ)) rfl ?_
  exact hrec39 _ _ hf
def fX0_scale_L39 (x1 : Int32) (x2 : Int32) (x3 : Int32) (σ : Sg)  (rec39 : Int32 → Option (Int32 × Sg)) (x4 : Int32) : Option (Int32 × Sg) :=
  if 20 ≤ x4 then if inb ((20 * x1) + x2) 160 then (fX0_told 0 (wi σ 20 ((20 * x1) + x2).toNatClampNeg x3)).bind fun q14 => some (q14.1, q14.2) else none else if x4 = x2 then fX0_scale_J78 x1 x2 x3 x4 rec39 σ else if inb ((20 * x1) + x4) 160 then if (gi σ 20 ((20 * x1) + x4).toNatClampNeg) ≠ x3 then fX0_scale_J78 x1 x2 x3 x4 rec39 σ else (fX0_refuse (-4) σ).bind fun q19 => some (q19.1, q19.2) else none
set_option maxHeartbeats 1500000 in
theorem fX0_scale_L39_ok (x1 : Int32) (x2 : Int32) (x3 : Int32) (σ : Sg)   : ∀ (n : Nat) (x4 : Int32) (r : (Int32 × Sg)), lp (fX0_scale_L39 x1 x2 x3 σ ) n x4 = some r → Go true 2 iX0_scale (39, [some (.ref 0), some (.int x1), some (.int x2), some (.int x3), some (.int x4)], [], σ) (.inl (some (.int (r).1)), (r).2) := by
  intro n
  induction n with
  | zero => intro x4 r hf; cases hf
  | succ n ih =>
    intro x4 r hf
    have hf : fX0_scale_L39 x1 x2 x3 σ  (lp (fX0_scale_L39 x1 x2 x3 σ ) n) x4 = some r := hf
    have hrec39 := ih
    generalize lp (fX0_scale_L39 x1 x2 x3 σ ) n = rec39 at hf hrec39
    unfold fX0_scale_L39 at hf
    refine go_n 2 (f := (43, [some (.ref 0), some (.int x1), some (.int x2), some (.int x3), some (.int x4)], [.int 20, .int x4], σ)) rfl ?_
    by_cases h12 : 20 ≤ x4
    · rw [if_pos h12] at hf
      refine go_it (t := 84) (f := 46) (L1 := [some (.ref 0), some (.int x1), some (.int x2), some (.int x3), some (.int x4)]) (st1 := []) (σ1 := σ) rfl h12 ?_
      refine go_n 9 (f := (98, [some (.ref 0), some (.int x1), some (.int x2), some (.int x3), some (.int x4)], [.int x3, .int ((20 * x1) + x2), .ref 20], σ)) rfl ?_
      obtain ⟨h13, hf⟩ := grd hf
      refine go_iast rfl rfl rfl h13 ?_
      refine go_n 2 (f := (101, [some (.ref 0), some (.int x1), some (.int x2), some (.int x3), some (.int x4)], [.int 0, .ref 0], (wi σ 20 ((20 * x1) + x2).toNatClampNeg x3))) rfl ?_
      obtain ⟨q14, h15, hf⟩ := bnd hf
      refine go_c (mid := 5136) (args := [.ref 0, .int 0]) (pc := 104) (L := [some (.ref 0), some (.int x1), some (.int x2), some (.int x3), some (.int x4)]) (st := []) (σ := (wi σ 20 ((20 * x1) + x2).toNatClampNeg x3)) rfl ((fX0_told_ok _ _ q14 h15).deep (Nat.le_of_ble_eq_true rfl)) ?_
      cases hf
      exact go_r rfl
    · rw [if_neg h12] at hf
      refine go_if (t := 84) (f := 46) (L1 := [some (.ref 0), some (.int x1), some (.int x2), some (.int x3), some (.int x4)]) (st1 := []) (σ1 := σ) rfl h12 ?_
      refine go_n 2 (f := (49, [some (.ref 0), some (.int x1), some (.int x2), some (.int x3), some (.int x4)], [.int x2, .int x4], σ)) rfl ?_
      by_cases h16 : x4 = x2
      · rw [if_pos h16] at hf
        refine go_it (t := 78) (f := 52) (L1 := [some (.ref 0), some (.int x1), some (.int x2), some (.int x3), some (.int x4)]) (st1 := []) (σ1 := σ) rfl h16 ?_
        exact fX0_scale_J78_ok _ _ _ _ _ _ hrec39 _ hf
      · rw [if_neg h16] at hf
        refine go_if (t := 78) (f := 52) (L1 := [some (.ref 0), some (.int x1), some (.int x2), some (.int x3), some (.int x4)]) (st1 := []) (σ1 := σ) rfl h16 ?_
        refine go_n 8 (f := (66, [some (.ref 0), some (.int x1), some (.int x2), some (.int x3), some (.int x4)], [.int ((20 * x1) + x4), .ref 20], σ)) rfl ?_
        obtain ⟨h17, hf⟩ := grd hf
        refine go_iald rfl rfl rfl h17 ?_
        refine go_n 1 (f := (68, [some (.ref 0), some (.int x1), some (.int x2), some (.int x3), some (.int x4)], [.int x3, .int (gi σ 20 ((20 * x1) + x4).toNatClampNeg)], σ)) rfl ?_
        by_cases h18 : (gi σ 20 ((20 * x1) + x4).toNatClampNeg) ≠ x3
        · rw [if_pos h18] at hf
          refine go_it (t := 78) (f := 71) (L1 := [some (.ref 0), some (.int x1), some (.int x2), some (.int x3), some (.int x4)]) (st1 := []) (σ1 := σ) rfl h18 ?_
          exact fX0_scale_J78_ok _ _ _ _ _ _ hrec39 _ hf
        · rw [if_neg h18] at hf
          refine go_if (t := 78) (f := 71) (L1 := [some (.ref 0), some (.int x1), some (.int x2), some (.int x3), some (.int x4)]) (st1 := []) (σ1 := σ) rfl h18 ?_
          refine go_n 2 (f := (74, [some (.ref 0), some (.int x1), some (.int x2), some (.int x3), some (.int x4)], [.int (-4), .ref 0], σ)) rfl ?_
          obtain ⟨q19, h20, hf⟩ := bnd hf
          refine go_c (mid := 5133) (args := [.ref 0, .int (-4)]) (pc := 77) (L := [some (.ref 0), some (.int x1), some (.int x2), some (.int x3), some (.int x4)]) (st := []) (σ := σ) rfl ((fX0_refuse_ok _ _ q19 h20).deep (Nat.le_of_ble_eq_true rfl)) ?_
          cases hf
          exact go_r rfl
def fX0_scale (x1 : Int32) (x2 : Int32) (x3 : Int32) (σ : Sg) : Option (Int32 × Sg) :=
  (fX0_in x1 0 7).bind fun q1 => if q1 = 0 then fX0_scale_J30   σ else (fX0_in x2 0 19).bind fun q6 => if q6 = 0 then fX0_scale_J30   σ else (fX0_in x3 0 19).bind fun q9 => if q9 ≠ 0 then lp (fX0_scale_L39 x1 x2 x3 σ ) N0 0 else fX0_scale_J30   σ
set_option maxHeartbeats 1500000 in
theorem fX0_scale_ok (x1 : Int32) (x2 : Int32) (x3 : Int32) (σ : Sg) (r : (Int32 × Sg)) (hf : fX0_scale x1 x2 x3 σ = some r) : Cl true 2 5167 [.ref 0, .int x1, .int x2, .int x3] σ (.inl (some (.int (r).1)), (r).2) := by
  refine ⟨iX0_scale, rfl, Nat.le_of_ble_eq_true rfl, Nat.le_of_ble_eq_true rfl, ?_⟩
  show Go true 2 iX0_scale (0, [some (.ref 0), some (.int x1), some (.int x2), some (.int x3), none], [], σ) (.inl (some (.int (r).1)), (r).2)
  unfold fX0_scale at hf
  refine go_n 3 (f := (4, [some (.ref 0), some (.int x1), some (.int x2), some (.int x3), none], [.int 7, .int 0, .int x1], σ)) rfl ?_
  obtain ⟨q1, h2, hf⟩ := bnd hf
  refine go_c (mid := 5122) (args := [.int x1, .int 0, .int 7]) (pc := 7) (L := [some (.ref 0), some (.int x1), some (.int x2), some (.int x3), none]) (st := []) (σ := σ) rfl ((fX0_in_ok _ _ _ _ q1 h2).deep (Nat.le_of_ble_eq_true rfl)) ?_
  by_cases h3 : q1 = 0
  · rw [if_pos h3] at hf
    refine go_it (t := 30) (f := 10) (L1 := [some (.ref 0), some (.int x1), some (.int x2), some (.int x3), none]) (st1 := []) (σ1 := σ) rfl h3 ?_
    refine go_e (L1 := [some (.ref 0), none, none, none, none]) rfl rfl ?_
    exact fX0_scale_J30_ok   _  _ hf
  · rw [if_neg h3] at hf
    refine go_if (t := 30) (f := 10) (L1 := [some (.ref 0), some (.int x1), some (.int x2), some (.int x3), none]) (st1 := []) (σ1 := σ) rfl h3 ?_
    refine go_n 3 (f := (14, [some (.ref 0), some (.int x1), some (.int x2), some (.int x3), none], [.int 19, .int 0, .int x2], σ)) rfl ?_
    obtain ⟨q6, h7, hf⟩ := bnd hf
    refine go_c (mid := 5122) (args := [.int x2, .int 0, .int 19]) (pc := 17) (L := [some (.ref 0), some (.int x1), some (.int x2), some (.int x3), none]) (st := []) (σ := σ) rfl ((fX0_in_ok _ _ _ _ q6 h7).deep (Nat.le_of_ble_eq_true rfl)) ?_
    by_cases h8 : q6 = 0
    · rw [if_pos h8] at hf
      refine go_it (t := 30) (f := 20) (L1 := [some (.ref 0), some (.int x1), some (.int x2), some (.int x3), none]) (st1 := []) (σ1 := σ) rfl h8 ?_
      refine go_e (L1 := [some (.ref 0), none, none, none, none]) rfl rfl ?_
      exact fX0_scale_J30_ok   _  _ hf
    · rw [if_neg h8] at hf
      refine go_if (t := 30) (f := 20) (L1 := [some (.ref 0), some (.int x1), some (.int x2), some (.int x3), none]) (st1 := []) (σ1 := σ) rfl h8 ?_
      refine go_n 3 (f := (24, [some (.ref 0), some (.int x1), some (.int x2), some (.int x3), none], [.int 19, .int 0, .int x3], σ)) rfl ?_
      obtain ⟨q9, h10, hf⟩ := bnd hf
      refine go_c (mid := 5122) (args := [.int x3, .int 0, .int 19]) (pc := 27) (L := [some (.ref 0), some (.int x1), some (.int x2), some (.int x3), none]) (st := []) (σ := σ) rfl ((fX0_in_ok _ _ _ _ q9 h10).deep (Nat.le_of_ble_eq_true rfl)) ?_
      by_cases h11 : q9 ≠ 0
      · rw [if_pos h11] at hf
        refine go_it (t := 36) (f := 30) (L1 := [some (.ref 0), some (.int x1), some (.int x2), some (.int x3), none]) (st1 := []) (σ1 := σ) rfl h11 ?_
        refine go_n 2 (f := (39, [some (.ref 0), some (.int x1), some (.int x2), some (.int x3), some (.int 0)], [], σ)) rfl ?_
        exact fX0_scale_L39_ok _ _ _ _   N0 _ _ hf
      · rw [if_neg h11] at hf
        refine go_if (t := 36) (f := 30) (L1 := [some (.ref 0), some (.int x1), some (.int x2), some (.int x3), none]) (st1 := []) (σ1 := σ) rfl h11 ?_
        refine go_e (L1 := [some (.ref 0), none, none, none, none]) rfl rfl ?_
        exact fX0_scale_J30_ok   _  _ hf
/-! OldWeather.within(J)I -/
def fX0_within (x0 : Int64) : Option Int32 :=
  (fJ5_min_2 1000 x0).bind fun q1 => (fJ5_max_2 (-1000) q1).bind fun q3 => some q3.toInt32
set_option maxHeartbeats 1500000 in
theorem fX0_within_ok (x0 : Int64) (σ : Sg) (r : Int32) (hf : fX0_within x0 = some r) : Cl true 1 5177 [.long x0] σ (.inl (some (.int r)), σ) := by
  refine ⟨iX0_within, rfl, Nat.le_of_ble_eq_true rfl, Nat.le_of_ble_eq_true rfl, ?_⟩
  show Go true 1 iX0_within (0, [some (.long x0), none], [], σ) (.inl (some (.int r)), σ)
  unfold fX0_within at hf
  refine go_n 3 (f := (7, [some (.long x0), none], [.long x0, .long 1000, .long (-1000)], σ)) rfl ?_
  obtain ⟨q1, h2, hf⟩ := bnd hf
  refine go_c (mid := 3587) (args := [.long 1000, .long x0]) (pc := 10) (L := [some (.long x0), none]) (st := [.long (-1000)]) (σ := σ) rfl ((fJ5_min_2_ok _ _ _ q1 h2).deep (Nat.le_of_ble_eq_true rfl)) ?_
  obtain ⟨q3, h4, hf⟩ := bnd hf
  refine go_c (mid := 3588) (args := [.long (-1000), .long q1]) (pc := 13) (L := [some (.long x0), none]) (st := []) (σ := σ) rfl ((fJ5_max_2_ok _ _ _ q3 h4).deep (Nat.le_of_ble_eq_true rfl)) ?_
  refine go_n 1 (f := (14, [some (.long x0), none], [.int q3.toInt32], σ)) rfl ?_
  cases hf
  exact go_r rfl
/-! OldWeather.tells(I)I -/
def fX0_tells (x1 : Int32) (σ : Sg) : Option Int32 :=
  ((fun (z6 : Int32) => some z6) (if x1 ≠ 0 then (if x1 ≠ 1 then (if x1 ≠ 2 then (if x1 ≠ 3 then (if (gi σ 0 26) = 0 then 0 else 1) else (gi σ 0 24)) else (gi σ 0 23)) else (gi σ 0 22)) else (gi σ 0 25)))
set_option maxHeartbeats 1500000 in
theorem fX0_tells_ok (x1 : Int32) (σ : Sg) (r : Int32) (hf : fX0_tells x1 σ = some r) : Cl true 0 5185 [.ref 0, .int x1] σ (.inl (some (.int r)), σ) := by
  refine ⟨iX0_tells, rfl, Nat.le_of_ble_eq_true rfl, Nat.le_of_ble_eq_true rfl, ?_⟩
  show Go true 0 iX0_tells (0, [some (.ref 0), some (.int x1)], [], σ) (.inl (some (.int r)), σ)
  unfold fX0_tells at hf
  refine go_n 1 (f := (1, [some (.ref 0), some (.int x1)], [.int x1], σ)) rfl ?_
  refine go_m (f := (59, [none, none], [.int (if x1 ≠ 0 then (if x1 ≠ 1 then (if x1 ≠ 2 then (if x1 ≠ 3 then (if (gi σ 0 26) = 0 then 0 else 1) else (gi σ 0 24)) else (gi σ 0 23)) else (gi σ 0 22)) else (gi σ 0 25))], σ)) ?_ (fun hJ7 => ?_)
  · generalize hz6 : (if x1 ≠ 0 then (if x1 ≠ 1 then (if x1 ≠ 2 then (if x1 ≠ 3 then (if (gi σ 0 26) = 0 then 0 else 1) else (gi σ 0 24)) else (gi σ 0 23)) else (gi σ 0 22)) else (gi σ 0 25)) = z6 at hf ⊢
    try dsimp only at hf
    cases hf
    exact go_r rfl
  · by_cases h1 : x1 ≠ 0
    · refine go_it (t := 11) (f := 4) (L1 := [some (.ref 0), some (.int x1)]) (st1 := []) (σ1 := σ) rfl h1 ?_
      refine go_n 2 (f := (13, [some (.ref 0), some (.int x1)], [.int 1, .int x1], σ)) rfl ?_
      by_cases h2 : x1 ≠ 1
      · refine go_it (t := 23) (f := 16) (L1 := [some (.ref 0), some (.int x1)]) (st1 := []) (σ1 := σ) rfl h2 ?_
        refine go_n 2 (f := (25, [some (.ref 0), some (.int x1)], [.int 2, .int x1], σ)) rfl ?_
        by_cases h3 : x1 ≠ 2
        · refine go_it (t := 35) (f := 28) (L1 := [some (.ref 0), some (.int x1)]) (st1 := []) (σ1 := σ) rfl h3 ?_
          refine go_n 2 (f := (37, [some (.ref 0), some (.int x1)], [.int 3, .int x1], σ)) rfl ?_
          by_cases h4 : x1 ≠ 3
          · refine go_it (t := 47) (f := 40) (L1 := [some (.ref 0), some (.int x1)]) (st1 := []) (σ1 := σ) rfl h4 ?_
            refine go_n 2 (f := (51, [some (.ref 0), some (.int x1)], [.int (gi σ 0 26)], σ)) rfl ?_
            by_cases h5 : (gi σ 0 26) = 0
            · refine go_it (t := 58) (f := 54) (L1 := [some (.ref 0), some (.int x1)]) (st1 := []) (σ1 := σ) rfl h5 ?_
              refine go_n 1 (f := (59, [some (.ref 0), some (.int x1)], [.int 0], σ)) rfl ?_
              refine go_e (L1 := [none, none]) rfl rfl ?_
              simp only [if_pos h1, if_pos h2, if_pos h3, if_pos h4, if_pos h5] at hJ7
              first | exact hJ7 | (simp only [if_pos h1, if_pos h2, if_pos h3, if_pos h4, if_pos h5]; exact hJ7)
            · refine go_if (t := 58) (f := 54) (L1 := [some (.ref 0), some (.int x1)]) (st1 := []) (σ1 := σ) rfl h5 ?_
              refine go_n 2 (f := (59, [some (.ref 0), some (.int x1)], [.int 1], σ)) rfl ?_
              refine go_e (L1 := [none, none]) rfl rfl ?_
              simp only [if_pos h1, if_pos h2, if_pos h3, if_pos h4, if_neg h5] at hJ7
              first | exact hJ7 | (simp only [if_pos h1, if_pos h2, if_pos h3, if_pos h4, if_neg h5]; exact hJ7)
          · refine go_if (t := 47) (f := 40) (L1 := [some (.ref 0), some (.int x1)]) (st1 := []) (σ1 := σ) rfl h4 ?_
            refine go_n 3 (f := (59, [some (.ref 0), some (.int x1)], [.int (gi σ 0 24)], σ)) rfl ?_
            refine go_e (L1 := [none, none]) rfl rfl ?_
            simp only [if_pos h1, if_pos h2, if_pos h3, if_neg h4] at hJ7
            first | exact hJ7 | (simp only [if_pos h1, if_pos h2, if_pos h3, if_neg h4]; exact hJ7)
        · refine go_if (t := 35) (f := 28) (L1 := [some (.ref 0), some (.int x1)]) (st1 := []) (σ1 := σ) rfl h3 ?_
          refine go_n 3 (f := (59, [some (.ref 0), some (.int x1)], [.int (gi σ 0 23)], σ)) rfl ?_
          refine go_e (L1 := [none, none]) rfl rfl ?_
          simp only [if_pos h1, if_pos h2, if_neg h3] at hJ7
          first | exact hJ7 | (simp only [if_pos h1, if_pos h2, if_neg h3]; exact hJ7)
      · refine go_if (t := 23) (f := 16) (L1 := [some (.ref 0), some (.int x1)]) (st1 := []) (σ1 := σ) rfl h2 ?_
        refine go_n 3 (f := (59, [some (.ref 0), some (.int x1)], [.int (gi σ 0 22)], σ)) rfl ?_
        refine go_e (L1 := [none, none]) rfl rfl ?_
        simp only [if_pos h1, if_neg h2] at hJ7
        first | exact hJ7 | (simp only [if_pos h1, if_neg h2]; exact hJ7)
    · refine go_if (t := 11) (f := 4) (L1 := [some (.ref 0), some (.int x1)]) (st1 := []) (σ1 := σ) rfl h1 ?_
      refine go_n 3 (f := (59, [some (.ref 0), some (.int x1)], [.int (gi σ 0 25)], σ)) rfl ?_
      refine go_e (L1 := [none, none]) rfl rfl ?_
      simp only [if_neg h1] at hJ7
      first | exact hJ7 | (simp only [if_neg h1]; exact hJ7)
/-! OldWeather.wish(I)I -/
def fX0_wish_L17 (x1 : Int32) (σ : Sg)  (rec17 : Int32 → Option (Int32 × Sg)) (x2 : Int32) : Option (Int32 × Sg) :=
  if (gi σ 0 39) ≤ x2 then if (gi σ 0 39) ≠ 5 then if inb (gi σ 0 39) 5 then (fX0_done ((gi σ 0 39) + 1) (wi (wi σ 50 (gi σ 0 39).toNatClampNeg x1) 0 39 ((gi σ 0 39) + 1))).bind fun q7 => some (q7.1, q7.2) else none else (fX0_refuse (-5) σ).bind fun q9 => some (q9.1, q9.2) else if inb x2 5 then if (gi σ 50 x2.toNatClampNeg) ≠ x1 then rec17 (x2 + 1) else (fX0_refuse (-4) σ).bind fun q13 => some (q13.1, q13.2) else none
set_option maxHeartbeats 1500000 in
theorem fX0_wish_L17_ok (x1 : Int32) (σ : Sg)   : ∀ (n : Nat) (x2 : Int32) (r : (Int32 × Sg)), lp (fX0_wish_L17 x1 σ ) n x2 = some r → Go true 2 iX0_wish (17, [some (.ref 0), some (.int x1), some (.int x2)], [], σ) (.inl (some (.int (r).1)), (r).2) := by
  intro n
  induction n with
  | zero => intro x2 r hf; cases hf
  | succ n ih =>
    intro x2 r hf
    have hf : fX0_wish_L17 x1 σ  (lp (fX0_wish_L17 x1 σ ) n) x2 = some r := hf
    have hrec17 := ih
    generalize lp (fX0_wish_L17 x1 σ ) n = rec17 at hf hrec17
    unfold fX0_wish_L17 at hf
    refine go_n 3 (f := (22, [some (.ref 0), some (.int x1), some (.int x2)], [.int (gi σ 0 39), .int x2], σ)) rfl ?_
    by_cases h4 : (gi σ 0 39) ≤ x2
    · rw [if_pos h4] at hf
      refine go_it (t := 48) (f := 25) (L1 := [some (.ref 0), some (.int x1), some (.int x2)]) (st1 := []) (σ1 := σ) rfl h4 ?_
      refine go_n 3 (f := (53, [some (.ref 0), some (.int x1), some (.int x2)], [.int 5, .int (gi σ 0 39)], σ)) rfl ?_
      by_cases h5 : (gi σ 0 39) ≠ 5
      · rw [if_pos h5] at hf
        refine go_it (t := 63) (f := 56) (L1 := [some (.ref 0), some (.int x1), some (.int x2)]) (st1 := []) (σ1 := σ) rfl h5 ?_
        refine go_n 5 (f := (72, [some (.ref 0), some (.int x1), some (.int x2)], [.int x1, .int (gi σ 0 39), .ref 50], σ)) rfl ?_
        obtain ⟨h6, hf⟩ := grd hf
        refine go_iast rfl rfl rfl h6 ?_
        refine go_n 9 (f := (88, [some (.ref 0), some (.int x1), some (.int x2)], [.int ((gi σ 0 39) + 1), .ref 0], (wi (wi σ 50 (gi σ 0 39).toNatClampNeg x1) 0 39 ((gi σ 0 39) + 1)))) rfl ?_
        obtain ⟨q7, h8, hf⟩ := bnd hf
        refine go_c (mid := 5134) (args := [.ref 0, .int ((gi σ 0 39) + 1)]) (pc := 91) (L := [some (.ref 0), some (.int x1), some (.int x2)]) (st := []) (σ := (wi (wi σ 50 (gi σ 0 39).toNatClampNeg x1) 0 39 ((gi σ 0 39) + 1))) rfl ((fX0_done_ok _ _ q7 h8).deep (Nat.le_of_ble_eq_true rfl)) ?_
        cases hf
        exact go_r rfl
      · rw [if_neg h5] at hf
        refine go_if (t := 63) (f := 56) (L1 := [some (.ref 0), some (.int x1), some (.int x2)]) (st1 := []) (σ1 := σ) rfl h5 ?_
        refine go_n 2 (f := (59, [some (.ref 0), some (.int x1), some (.int x2)], [.int (-5), .ref 0], σ)) rfl ?_
        obtain ⟨q9, h10, hf⟩ := bnd hf
        refine go_c (mid := 5133) (args := [.ref 0, .int (-5)]) (pc := 62) (L := [some (.ref 0), some (.int x1), some (.int x2)]) (st := []) (σ := σ) rfl ((fX0_refuse_ok _ _ q9 h10).deep (Nat.le_of_ble_eq_true rfl)) ?_
        cases hf
        exact go_r rfl
    · rw [if_neg h4] at hf
      refine go_if (t := 48) (f := 25) (L1 := [some (.ref 0), some (.int x1), some (.int x2)]) (st1 := []) (σ1 := σ) rfl h4 ?_
      refine go_n 3 (f := (30, [some (.ref 0), some (.int x1), some (.int x2)], [.int x2, .ref 50], σ)) rfl ?_
      obtain ⟨h11, hf⟩ := grd hf
      refine go_iald rfl rfl rfl h11 ?_
      refine go_n 1 (f := (32, [some (.ref 0), some (.int x1), some (.int x2)], [.int x1, .int (gi σ 50 x2.toNatClampNeg)], σ)) rfl ?_
      by_cases h12 : (gi σ 50 x2.toNatClampNeg) ≠ x1
      · rw [if_pos h12] at hf
        refine go_it (t := 42) (f := 35) (L1 := [some (.ref 0), some (.int x1), some (.int x2)]) (st1 := []) (σ1 := σ) rfl h12 ?_
        refine go_n 2 (f := (17, [some (.ref 0), some (.int x1), some (.int (x2 + 1))], [], σ)) rfl ?_
        exact hrec17 _ _ hf
      · rw [if_neg h12] at hf
        refine go_if (t := 42) (f := 35) (L1 := [some (.ref 0), some (.int x1), some (.int x2)]) (st1 := []) (σ1 := σ) rfl h12 ?_
        refine go_n 2 (f := (38, [some (.ref 0), some (.int x1), some (.int x2)], [.int (-4), .ref 0], σ)) rfl ?_
        obtain ⟨q13, h14, hf⟩ := bnd hf
        refine go_c (mid := 5133) (args := [.ref 0, .int (-4)]) (pc := 41) (L := [some (.ref 0), some (.int x1), some (.int x2)]) (st := []) (σ := σ) rfl ((fX0_refuse_ok _ _ q13 h14).deep (Nat.le_of_ble_eq_true rfl)) ?_
        cases hf
        exact go_r rfl
def fX0_wish (x1 : Int32) (σ : Sg) : Option (Int32 × Sg) :=
  (fX0_isSource x1 σ).bind fun q1 => if q1 ≠ 0 then lp (fX0_wish_L17 x1 σ ) N0 0 else (fX0_refuse (-2) σ).bind fun q15 => some (q15.1, q15.2)
set_option maxHeartbeats 1500000 in
theorem fX0_wish_ok (x1 : Int32) (σ : Sg) (r : (Int32 × Sg)) (hf : fX0_wish x1 σ = some r) : Cl true 2 5188 [.ref 0, .int x1] σ (.inl (some (.int (r).1)), (r).2) := by
  refine ⟨iX0_wish, rfl, Nat.le_of_ble_eq_true rfl, Nat.le_of_ble_eq_true rfl, ?_⟩
  show Go true 2 iX0_wish (0, [some (.ref 0), some (.int x1), none], [], σ) (.inl (some (.int (r).1)), (r).2)
  unfold fX0_wish at hf
  refine go_n 2 (f := (2, [some (.ref 0), some (.int x1), none], [.int x1, .ref 0], σ)) rfl ?_
  obtain ⟨q1, h2, hf⟩ := bnd hf
  refine go_c (mid := 5143) (args := [.ref 0, .int x1]) (pc := 5) (L := [some (.ref 0), some (.int x1), none]) (st := []) (σ := σ) rfl ((fX0_isSource_ok _ _ q1 h2).deep (Nat.le_of_ble_eq_true rfl)) ?_
  by_cases h3 : q1 ≠ 0
  · rw [if_pos h3] at hf
    refine go_it (t := 15) (f := 8) (L1 := [some (.ref 0), some (.int x1), none]) (st1 := []) (σ1 := σ) rfl h3 ?_
    refine go_n 2 (f := (17, [some (.ref 0), some (.int x1), some (.int 0)], [], σ)) rfl ?_
    exact fX0_wish_L17_ok _ _   N0 _ _ hf
  · rw [if_neg h3] at hf
    refine go_if (t := 15) (f := 8) (L1 := [some (.ref 0), some (.int x1), none]) (st1 := []) (σ1 := σ) rfl h3 ?_
    refine go_n 2 (f := (11, [some (.ref 0), some (.int x1), none], [.int (-2), .ref 0], σ)) rfl ?_
    obtain ⟨q15, h16, hf⟩ := bnd hf
    refine go_c (mid := 5133) (args := [.ref 0, .int (-2)]) (pc := 14) (L := [some (.ref 0), some (.int x1), none]) (st := []) (σ := σ) rfl ((fX0_refuse_ok _ _ q15 h16).deep (Nat.le_of_ble_eq_true rfl)) ?_
    cases hf
    exact go_r rfl
/-! OldWeather.clear()I -/
def fX0_clear  (σ : Sg) : Option (Int32 × Sg) :=
  some ((gi σ 0 39), (wi σ 0 39 0))
set_option maxHeartbeats 1500000 in
theorem fX0_clear_ok  (σ : Sg) (r : (Int32 × Sg)) (hf : fX0_clear  σ = some r) : Cl true 0 5189 [.ref 0] σ (.inl (some (.int (r).1)), (r).2) := by
  refine ⟨iX0_clear, rfl, Nat.le_of_ble_eq_true rfl, Nat.le_of_ble_eq_true rfl, ?_⟩
  show Go true 0 iX0_clear (0, [some (.ref 0), none], [], σ) (.inl (some (.int (r).1)), (r).2)
  unfold fX0_clear at hf
  refine go_n 6 (f := (10, [some (.ref 0), some (.int (gi σ 0 39))], [], (wi σ 0 39 0))) rfl ?_
  refine go_n 1 (f := (11, [some (.ref 0), some (.int (gi σ 0 39))], [.int (gi σ 0 39)], (wi σ 0 39 0))) rfl ?_
  cases hf
  exact go_r rfl
/-! OldWeather.quarrel(IIII)Z -/
def fX0_quarrel (x1 : Int32) (x2 : Int32) (x3 : Int32) (x4 : Int32) (σ : Sg) : Option Int32 :=
  if inb ((9 * x1) + x2) 1800 then if (gi σ 58 ((9 * x1) + x2).toNatClampNeg) = 0 then some 0 else if inb ((9 * x3) + x4) 1800 then if (gi σ 58 ((9 * x3) + x4).toNatClampNeg) = 0 then some 0 else if inb x1 200 then if inb x2 9 then if inb x3 200 then if inb x4 9 then if ((gi σ 25 x1.toNatClampNeg) + (gi σ 49 x2.toNatClampNeg)) ≠ ((gi σ 25 x3.toNatClampNeg) + (gi σ 49 x4.toNatClampNeg)) then some 0 else if inb ((9 * x1) + x2) 1800 then if inb ((9 * x3) + x4) 1800 then if (gi σ 57 ((9 * x1) + x2).toNatClampNeg) < (gi σ 56 ((9 * x3) + x4).toNatClampNeg) then some 1 else if inb ((9 * x3) + x4) 1800 then if inb ((9 * x1) + x2) 1800 then ((fun (z16 : Int32) => some z16) ((if (gi σ 56 ((9 * x1) + x2).toNatClampNeg) ≤ (gi σ 57 ((9 * x3) + x4).toNatClampNeg) then 0 else 1) : Int32)) else none else none else none else none else none else none else none else none else none else none
set_option maxHeartbeats 1500000 in
theorem fX0_quarrel_ok (x1 : Int32) (x2 : Int32) (x3 : Int32) (x4 : Int32) (σ : Sg) (r : Int32) (hf : fX0_quarrel x1 x2 x3 x4 σ = some r) : Cl true 0 5194 [.ref 0, .int x1, .int x2, .int x3, .int x4] σ (.inl (some (.int r)), σ) := by
  refine ⟨iX0_quarrel, rfl, Nat.le_of_ble_eq_true rfl, Nat.le_of_ble_eq_true rfl, ?_⟩
  show Go true 0 iX0_quarrel (0, [some (.ref 0), some (.int x1), some (.int x2), some (.int x3), some (.int x4), none, none], [], σ) (.inl (some (.int r)), σ)
  unfold fX0_quarrel at hf
  refine go_n 10 (f := (14, [some (.ref 0), some (.int x1), some (.int x2), some (.int x3), some (.int x4), some (.int ((9 * x1) + x2)), none], [.int x4, .int (9 * x3)], σ)) rfl ?_
  refine go_n 5 (f := (23, [some (.ref 0), some (.int x1), some (.int x2), some (.int x3), some (.int x4), some (.int ((9 * x1) + x2)), some (.int ((9 * x3) + x4))], [.int ((9 * x1) + x2), .ref 58], σ)) rfl ?_
  obtain ⟨h1, hf⟩ := grd hf
  refine go_bald rfl rfl (Or.inr rfl) h1 ?_
  by_cases h2 : (gi σ 58 ((9 * x1) + x2).toNatClampNeg) = 0
  · rw [if_pos h2] at hf
    refine go_it (t := 105) (f := 27) (L1 := [some (.ref 0), some (.int x1), some (.int x2), some (.int x3), some (.int x4), some (.int ((9 * x1) + x2)), some (.int ((9 * x3) + x4))]) (st1 := []) (σ1 := σ) rfl h2 ?_
    refine go_e (L1 := [none, none, none, none, none, none, none]) rfl rfl ?_
    refine go_n 1 (f := (106, [none, none, none, none, none, none, none], [.int 0], σ)) rfl ?_
    cases hf
    exact go_r rfl
  · rw [if_neg h2] at hf
    refine go_if (t := 105) (f := 27) (L1 := [some (.ref 0), some (.int x1), some (.int x2), some (.int x3), some (.int x4), some (.int ((9 * x1) + x2)), some (.int ((9 * x3) + x4))]) (st1 := []) (σ1 := σ) rfl h2 ?_
    refine go_n 3 (f := (33, [some (.ref 0), some (.int x1), some (.int x2), some (.int x3), some (.int x4), some (.int ((9 * x1) + x2)), some (.int ((9 * x3) + x4))], [.int ((9 * x3) + x4), .ref 58], σ)) rfl ?_
    obtain ⟨h3, hf⟩ := grd hf
    refine go_bald rfl rfl (Or.inr rfl) h3 ?_
    by_cases h4 : (gi σ 58 ((9 * x3) + x4).toNatClampNeg) = 0
    · rw [if_pos h4] at hf
      refine go_it (t := 105) (f := 37) (L1 := [some (.ref 0), some (.int x1), some (.int x2), some (.int x3), some (.int x4), some (.int ((9 * x1) + x2)), some (.int ((9 * x3) + x4))]) (st1 := []) (σ1 := σ) rfl h4 ?_
      refine go_e (L1 := [none, none, none, none, none, none, none]) rfl rfl ?_
      refine go_n 1 (f := (106, [none, none, none, none, none, none, none], [.int 0], σ)) rfl ?_
      cases hf
      exact go_r rfl
    · rw [if_neg h4] at hf
      refine go_if (t := 105) (f := 37) (L1 := [some (.ref 0), some (.int x1), some (.int x2), some (.int x3), some (.int x4), some (.int ((9 * x1) + x2)), some (.int ((9 * x3) + x4))]) (st1 := []) (σ1 := σ) rfl h4 ?_
      refine go_n 3 (f := (42, [some (.ref 0), some (.int x1), some (.int x2), some (.int x3), some (.int x4), some (.int ((9 * x1) + x2)), some (.int ((9 * x3) + x4))], [.int x1, .ref 25], σ)) rfl ?_
      obtain ⟨h5, hf⟩ := grd hf
      refine go_iald rfl rfl rfl h5 ?_
      refine go_n 3 (f := (48, [some (.ref 0), some (.int x1), some (.int x2), some (.int x3), some (.int x4), some (.int ((9 * x1) + x2)), some (.int ((9 * x3) + x4))], [.int x2, .ref 49, .int (gi σ 25 x1.toNatClampNeg)], σ)) rfl ?_
      obtain ⟨h6, hf⟩ := grd hf
      refine go_iald rfl rfl rfl h6 ?_
      refine go_n 4 (f := (55, [some (.ref 0), some (.int x1), some (.int x2), some (.int x3), some (.int x4), some (.int ((9 * x1) + x2)), some (.int ((9 * x3) + x4))], [.int x3, .ref 25, .int ((gi σ 25 x1.toNatClampNeg) + (gi σ 49 x2.toNatClampNeg))], σ)) rfl ?_
      obtain ⟨h7, hf⟩ := grd hf
      refine go_iald rfl rfl rfl h7 ?_
      refine go_n 3 (f := (62, [some (.ref 0), some (.int x1), some (.int x2), some (.int x3), some (.int x4), some (.int ((9 * x1) + x2)), some (.int ((9 * x3) + x4))], [.int x4, .ref 49, .int (gi σ 25 x3.toNatClampNeg), .int ((gi σ 25 x1.toNatClampNeg) + (gi σ 49 x2.toNatClampNeg))], σ)) rfl ?_
      obtain ⟨h8, hf⟩ := grd hf
      refine go_iald rfl rfl rfl h8 ?_
      refine go_n 1 (f := (64, [some (.ref 0), some (.int x1), some (.int x2), some (.int x3), some (.int x4), some (.int ((9 * x1) + x2)), some (.int ((9 * x3) + x4))], [.int ((gi σ 25 x3.toNatClampNeg) + (gi σ 49 x4.toNatClampNeg)), .int ((gi σ 25 x1.toNatClampNeg) + (gi σ 49 x2.toNatClampNeg))], σ)) rfl ?_
      by_cases h9 : ((gi σ 25 x1.toNatClampNeg) + (gi σ 49 x2.toNatClampNeg)) ≠ ((gi σ 25 x3.toNatClampNeg) + (gi σ 49 x4.toNatClampNeg))
      · rw [if_pos h9] at hf
        refine go_it (t := 105) (f := 67) (L1 := [some (.ref 0), some (.int x1), some (.int x2), some (.int x3), some (.int x4), some (.int ((9 * x1) + x2)), some (.int ((9 * x3) + x4))]) (st1 := []) (σ1 := σ) rfl h9 ?_
        refine go_e (L1 := [none, none, none, none, none, none, none]) rfl rfl ?_
        refine go_n 1 (f := (106, [none, none, none, none, none, none, none], [.int 0], σ)) rfl ?_
        cases hf
        exact go_r rfl
      · rw [if_neg h9] at hf
        refine go_if (t := 105) (f := 67) (L1 := [some (.ref 0), some (.int x1), some (.int x2), some (.int x3), some (.int x4), some (.int ((9 * x1) + x2)), some (.int ((9 * x3) + x4))]) (st1 := []) (σ1 := σ) rfl h9 ?_
        refine go_n 3 (f := (73, [some (.ref 0), some (.int x1), some (.int x2), some (.int x3), some (.int x4), some (.int ((9 * x1) + x2)), some (.int ((9 * x3) + x4))], [.int ((9 * x1) + x2), .ref 57], σ)) rfl ?_
        obtain ⟨h10, hf⟩ := grd hf
        refine go_iald rfl rfl rfl h10 ?_
        refine go_n 3 (f := (80, [some (.ref 0), some (.int x1), some (.int x2), some (.int x3), some (.int x4), some (.int ((9 * x1) + x2)), some (.int ((9 * x3) + x4))], [.int ((9 * x3) + x4), .ref 56, .int (gi σ 57 ((9 * x1) + x2).toNatClampNeg)], σ)) rfl ?_
        obtain ⟨h11, hf⟩ := grd hf
        refine go_iald rfl rfl rfl h11 ?_
        by_cases h12 : (gi σ 57 ((9 * x1) + x2).toNatClampNeg) < (gi σ 56 ((9 * x3) + x4).toNatClampNeg)
        · rw [if_pos h12] at hf
          refine go_it (t := 101) (f := 84) (L1 := [some (.ref 0), some (.int x1), some (.int x2), some (.int x3), some (.int x4), some (.int ((9 * x1) + x2)), some (.int ((9 * x3) + x4))]) (st1 := []) (σ1 := σ) rfl h12 ?_
          refine go_e (L1 := [none, none, none, none, none, none, none]) rfl rfl ?_
          refine go_n 2 (f := (106, [none, none, none, none, none, none, none], [.int 1], σ)) rfl ?_
          cases hf
          exact go_r rfl
        · rw [if_neg h12] at hf
          refine go_if (t := 101) (f := 84) (L1 := [some (.ref 0), some (.int x1), some (.int x2), some (.int x3), some (.int x4), some (.int ((9 * x1) + x2)), some (.int ((9 * x3) + x4))]) (st1 := []) (σ1 := σ) rfl h12 ?_
          refine go_n 3 (f := (90, [some (.ref 0), some (.int x1), some (.int x2), some (.int x3), some (.int x4), some (.int ((9 * x1) + x2)), some (.int ((9 * x3) + x4))], [.int ((9 * x3) + x4), .ref 57], σ)) rfl ?_
          obtain ⟨h13, hf⟩ := grd hf
          refine go_iald rfl rfl rfl h13 ?_
          refine go_n 3 (f := (97, [some (.ref 0), some (.int x1), some (.int x2), some (.int x3), some (.int x4), some (.int ((9 * x1) + x2)), some (.int ((9 * x3) + x4))], [.int ((9 * x1) + x2), .ref 56, .int (gi σ 57 ((9 * x3) + x4).toNatClampNeg)], σ)) rfl ?_
          obtain ⟨h14, hf⟩ := grd hf
          refine go_iald rfl rfl rfl h14 ?_
          refine go_m (f := (106, [none, none, none, none, none, none, none], [.int ((if (gi σ 56 ((9 * x1) + x2).toNatClampNeg) ≤ (gi σ 57 ((9 * x3) + x4).toNatClampNeg) then 0 else 1) : Int32)], σ)) ?_ (fun hJ17 => ?_)
          · generalize hz16 : ((if (gi σ 56 ((9 * x1) + x2).toNatClampNeg) ≤ (gi σ 57 ((9 * x3) + x4).toNatClampNeg) then 0 else 1) : Int32) = z16 at hf ⊢
            have oz16 : am_ok 3 z16 = true := hz16 ▸ (okb rfl rfl)
            try dsimp only at hf
            cases hf
            exact go_ret rfl rfl (Or.inr (Or.inl ⟨rfl, oz16⟩))
          · by_cases h15 : (gi σ 56 ((9 * x1) + x2).toNatClampNeg) ≤ (gi σ 57 ((9 * x3) + x4).toNatClampNeg)
            · refine go_it (t := 105) (f := 101) (L1 := [some (.ref 0), some (.int x1), some (.int x2), some (.int x3), some (.int x4), some (.int ((9 * x1) + x2)), some (.int ((9 * x3) + x4))]) (st1 := []) (σ1 := σ) rfl h15 ?_
              refine go_e (L1 := [none, none, none, none, none, none, none]) rfl rfl ?_
              refine go_n 1 (f := (106, [none, none, none, none, none, none, none], [.int 0], σ)) rfl ?_
              refine go_e (L1 := [none, none, none, none, none, none, none]) rfl rfl ?_
              simp only [if_pos h15] at hJ17
              first | exact hJ17 | (simp only [if_pos h15]; exact hJ17)
            · refine go_if (t := 105) (f := 101) (L1 := [some (.ref 0), some (.int x1), some (.int x2), some (.int x3), some (.int x4), some (.int ((9 * x1) + x2)), some (.int ((9 * x3) + x4))]) (st1 := []) (σ1 := σ) rfl h15 ?_
              refine go_e (L1 := [none, none, none, none, none, none, none]) rfl rfl ?_
              refine go_n 2 (f := (106, [none, none, none, none, none, none, none], [.int 1], σ)) rfl ?_
              refine go_e (L1 := [none, none, none, none, none, none, none]) rfl rfl ?_
              simp only [if_neg h15] at hJ17
              first | exact hJ17 | (simp only [if_neg h15]; exact hJ17)
/-! OldWeather.counts(IIII)V -/
def fX0_counts_2 (x1 : Int32) (x2 : Int32) (x3 : Int32) (x4 : Int32) (σ : Sg) : Option Sg :=
  if x3 ≠ (-1) then if inb ((((((9 * x1) + x2) * 5) + x3) * 9) + x4) 2025 then if inb ((((((9 * x1) + x2) * 5) + x3) * 9) + x4) 2025 then some (wi σ 55 ((((((9 * x1) + x2) * 5) + x3) * 9) + x4).toNatClampNeg ((gi σ 55 ((((((9 * x1) + x2) * 5) + x3) * 9) + x4).toNatClampNeg) + 1)) else none else none else if inb ((9 * x1) + x2) 45 then if inb ((9 * x1) + x2) 45 then some (wi σ 54 ((9 * x1) + x2).toNatClampNeg ((gi σ 54 ((9 * x1) + x2).toNatClampNeg) + 1)) else none else none
set_option maxHeartbeats 1500000 in
theorem fX0_counts_2_ok (x1 : Int32) (x2 : Int32) (x3 : Int32) (x4 : Int32) (σ : Sg) (r : Sg) (hf : fX0_counts_2 x1 x2 x3 x4 σ = some r) : Cl true 0 5195 [.ref 0, .int x1, .int x2, .int x3, .int x4] σ (.inl none, r) := by
  refine ⟨iX0_counts_2, rfl, Nat.le_of_ble_eq_true rfl, Nat.le_of_ble_eq_true rfl, ?_⟩
  show Go true 0 iX0_counts_2 (0, [some (.ref 0), some (.int x1), some (.int x2), some (.int x3), some (.int x4)], [], σ) (.inl none, r)
  unfold fX0_counts_2 at hf
  refine go_n 2 (f := (2, [some (.ref 0), some (.int x1), some (.int x2), some (.int x3), some (.int x4)], [.int (-1), .int x3], σ)) rfl ?_
  by_cases h1 : x3 ≠ (-1)
  · rw [if_pos h1] at hf
    refine go_it (t := 23) (f := 5) (L1 := [some (.ref 0), some (.int x1), some (.int x2), some (.int x3), some (.int x4)]) (st1 := []) (σ1 := σ) rfl h1 ?_
    refine go_n 10 (f := (36, [some (.ref 0), some (.int x1), some (.int x2), some (.int x3), some (.int x4)], [.int x3, .int (((9 * x1) + x2) * 5), .ref 55], σ)) rfl ?_
    refine go_n 6 (f := (44, [some (.ref 0), some (.int x1), some (.int x2), some (.int x3), some (.int x4)], [.int ((((((9 * x1) + x2) * 5) + x3) * 9) + x4), .ref 55, .int ((((((9 * x1) + x2) * 5) + x3) * 9) + x4), .ref 55], σ)) rfl ?_
    obtain ⟨h2, hf⟩ := grd hf
    refine go_iald rfl rfl rfl h2 ?_
    refine go_n 2 (f := (47, [some (.ref 0), some (.int x1), some (.int x2), some (.int x3), some (.int x4)], [.int ((gi σ 55 ((((((9 * x1) + x2) * 5) + x3) * 9) + x4).toNatClampNeg) + 1), .int ((((((9 * x1) + x2) * 5) + x3) * 9) + x4), .ref 55], σ)) rfl ?_
    obtain ⟨h3, hf⟩ := grd hf
    refine go_iast rfl rfl rfl h3 ?_
    refine go_e (L1 := [none, none, none, none, none]) rfl rfl ?_
    cases hf
    exact go_r rfl
  · rw [if_neg h1] at hf
    refine go_if (t := 23) (f := 5) (L1 := [some (.ref 0), some (.int x1), some (.int x2), some (.int x3), some (.int x4)]) (st1 := []) (σ1 := σ) rfl h1 ?_
    refine go_n 8 (f := (16, [some (.ref 0), some (.int x1), some (.int x2), some (.int x3), some (.int x4)], [.int ((9 * x1) + x2), .ref 54, .int ((9 * x1) + x2), .ref 54], σ)) rfl ?_
    obtain ⟨h4, hf⟩ := grd hf
    refine go_iald rfl rfl rfl h4 ?_
    refine go_n 2 (f := (19, [some (.ref 0), some (.int x1), some (.int x2), some (.int x3), some (.int x4)], [.int ((gi σ 54 ((9 * x1) + x2).toNatClampNeg) + 1), .int ((9 * x1) + x2), .ref 54], σ)) rfl ?_
    obtain ⟨h5, hf⟩ := grd hf
    refine go_iast rfl rfl rfl h5 ?_
    refine go_n 1 (f := (48, [some (.ref 0), some (.int x1), some (.int x2), some (.int x3), some (.int x4)], [], (wi σ 54 ((9 * x1) + x2).toNatClampNeg ((gi σ 54 ((9 * x1) + x2).toNatClampNeg) + 1)))) rfl ?_
    refine go_e (L1 := [none, none, none, none, none]) rfl rfl ?_
    cases hf
    exact go_r rfl
/-! OldWeather.quarrelsOfRow()I -/
def fX0_quarrelsOfRow_L35 (x2 : Int32) (σ : Sg) (rec4 : (Int32 × Int32) → Option Int32) (rec35 : (Int32 × Int32) → Option Int32) (s : Int32 × Int32) : Option Int32 :=
  match s with
  | (x1, x3) => if (gi σ 0 39) ≤ x3 then rec4 (x1, (x2 + 1)) else if inb x2 5 then if inb x3 5 then if inb ((((((9 * x2) + (gi σ 51 x2.toNatClampNeg)) * 5) + x3) * 9) + (gi σ 51 x3.toNatClampNeg)) 2025 then rec35 ((x1 + (gi σ 55 ((((((9 * x2) + (gi σ 51 x2.toNatClampNeg)) * 5) + x3) * 9) + (gi σ 51 x3.toNatClampNeg)).toNatClampNeg)), (x3 + 1)) else none else none else none
set_option maxHeartbeats 1500000 in
theorem fX0_quarrelsOfRow_L35_ok (x2 : Int32) (σ : Sg) (rec4 : (Int32 × Int32) → Option Int32) (hrec4 : ∀ (y1 : Int32) (y2 : Int32) (r : Int32), rec4 (y1, y2) = some r → Go true 0 iX0_quarrelsOfRow (4, [some (.ref 0), some (.int y1), some (.int y2), none], [], σ) (.inl (some (.int r)), σ)) : ∀ (n : Nat) (x1 : Int32) (x3 : Int32) (r : Int32), lp (fX0_quarrelsOfRow_L35 x2 σ rec4) n (x1, x3) = some r → Go true 0 iX0_quarrelsOfRow (35, [some (.ref 0), some (.int x1), some (.int x2), some (.int x3)], [], σ) (.inl (some (.int r)), σ) := by
  intro n
  induction n with
  | zero => intro x1 x3 r hf; cases hf
  | succ n ih =>
    intro x1 x3 r hf
    have hf : fX0_quarrelsOfRow_L35 x2 σ rec4 (lp (fX0_quarrelsOfRow_L35 x2 σ rec4) n) (x1, x3) = some r := hf
    have hrec35 := ih
    generalize lp (fX0_quarrelsOfRow_L35 x2 σ rec4) n = rec35 at hf hrec35
    unfold fX0_quarrelsOfRow_L35 at hf
    dsimp only at hf
    refine go_n 3 (f := (40, [some (.ref 0), some (.int x1), some (.int x2), some (.int x3)], [.int (gi σ 0 39), .int x3], σ)) rfl ?_
    by_cases h4 : (gi σ 0 39) ≤ x3
    · rw [if_pos h4] at hf
      refine go_it (t := 82) (f := 43) (L1 := [some (.ref 0), some (.int x1), some (.int x2), some (.int x3)]) (st1 := []) (σ1 := σ) rfl h4 ?_
      refine go_n 2 (f := (4, [some (.ref 0), some (.int x1), some (.int (x2 + 1)), some (.int x3)], [], σ)) rfl ?_
      refine go_e (L1 := [some (.ref 0), some (.int x1), some (.int (x2 + 1)), none]) rfl rfl ?_
      exact hrec4 _ _ _ hf
    · rw [if_neg h4] at hf
      refine go_if (t := 82) (f := 43) (L1 := [some (.ref 0), some (.int x1), some (.int x2), some (.int x3)]) (st1 := []) (σ1 := σ) rfl h4 ?_
      refine go_n 9 (f := (57, [some (.ref 0), some (.int x1), some (.int x2), some (.int x3)], [.int x2, .ref 51, .int (9 * x2), .ref 55, .int x1], σ)) rfl ?_
      obtain ⟨h5, hf⟩ := grd hf
      refine go_iald rfl rfl rfl h5 ?_
      refine go_n 10 (f := (71, [some (.ref 0), some (.int x1), some (.int x2), some (.int x3)], [.int x3, .ref 51, .int (((((9 * x2) + (gi σ 51 x2.toNatClampNeg)) * 5) + x3) * 9), .ref 55, .int x1], σ)) rfl ?_
      obtain ⟨h6, hf⟩ := grd hf
      refine go_iald rfl rfl rfl h6 ?_
      refine go_n 1 (f := (73, [some (.ref 0), some (.int x1), some (.int x2), some (.int x3)], [.int ((((((9 * x2) + (gi σ 51 x2.toNatClampNeg)) * 5) + x3) * 9) + (gi σ 51 x3.toNatClampNeg)), .ref 55, .int x1], σ)) rfl ?_
      obtain ⟨h7, hf⟩ := grd hf
      refine go_iald rfl rfl rfl h7 ?_
      refine go_n 3 (f := (79, [some (.ref 0), some (.int (x1 + (gi σ 55 ((((((9 * x2) + (gi σ 51 x2.toNatClampNeg)) * 5) + x3) * 9) + (gi σ 51 x3.toNatClampNeg)).toNatClampNeg))), some (.int x2), some (.int (x3 + 1))], [], σ)) rfl ?_
      refine go_n 1 (f := (35, [some (.ref 0), some (.int (x1 + (gi σ 55 ((((((9 * x2) + (gi σ 51 x2.toNatClampNeg)) * 5) + x3) * 9) + (gi σ 51 x3.toNatClampNeg)).toNatClampNeg))), some (.int x2), some (.int (x3 + 1))], [], σ)) rfl ?_
      exact hrec35 _ _ _ hf
def fX0_quarrelsOfRow_L4  (σ : Sg)  (rec4 : (Int32 × Int32) → Option Int32) (s : Int32 × Int32) : Option Int32 :=
  match s with
  | (x1, x2) => if (gi σ 0 39) ≤ x2 then some x1 else if inb x2 5 then if inb ((9 * x2) + (gi σ 51 x2.toNatClampNeg)) 45 then lp (fX0_quarrelsOfRow_L35 x2 σ rec4) N0 ((x1 + (gi σ 54 ((9 * x2) + (gi σ 51 x2.toNatClampNeg)).toNatClampNeg)), (x2 + 1)) else none else none
set_option maxHeartbeats 1500000 in
theorem fX0_quarrelsOfRow_L4_ok  (σ : Sg)   : ∀ (n : Nat) (x1 : Int32) (x2 : Int32) (r : Int32), lp (fX0_quarrelsOfRow_L4  σ ) n (x1, x2) = some r → Go true 0 iX0_quarrelsOfRow (4, [some (.ref 0), some (.int x1), some (.int x2), none], [], σ) (.inl (some (.int r)), σ) := by
  intro n
  induction n with
  | zero => intro x1 x2 r hf; cases hf
  | succ n ih =>
    intro x1 x2 r hf
    have hf : fX0_quarrelsOfRow_L4  σ  (lp (fX0_quarrelsOfRow_L4  σ ) n) (x1, x2) = some r := hf
    have hrec4 := ih
    generalize lp (fX0_quarrelsOfRow_L4  σ ) n = rec4 at hf hrec4
    unfold fX0_quarrelsOfRow_L4 at hf
    dsimp only at hf
    refine go_n 3 (f := (9, [some (.ref 0), some (.int x1), some (.int x2), none], [.int (gi σ 0 39), .int x2], σ)) rfl ?_
    by_cases h1 : (gi σ 0 39) ≤ x2
    · rw [if_pos h1] at hf
      refine go_it (t := 88) (f := 12) (L1 := [some (.ref 0), some (.int x1), some (.int x2), none]) (st1 := []) (σ1 := σ) rfl h1 ?_
      refine go_n 1 (f := (89, [some (.ref 0), some (.int x1), some (.int x2), none], [.int x1], σ)) rfl ?_
      cases hf
      exact go_r rfl
    · rw [if_neg h1] at hf
      refine go_if (t := 88) (f := 12) (L1 := [some (.ref 0), some (.int x1), some (.int x2), none]) (st1 := []) (σ1 := σ) rfl h1 ?_
      refine go_n 9 (f := (26, [some (.ref 0), some (.int x1), some (.int x2), none], [.int x2, .ref 51, .int (9 * x2), .ref 54, .int x1], σ)) rfl ?_
      obtain ⟨h2, hf⟩ := grd hf
      refine go_iald rfl rfl rfl h2 ?_
      refine go_n 1 (f := (28, [some (.ref 0), some (.int x1), some (.int x2), none], [.int ((9 * x2) + (gi σ 51 x2.toNatClampNeg)), .ref 54, .int x1], σ)) rfl ?_
      obtain ⟨h3, hf⟩ := grd hf
      refine go_iald rfl rfl rfl h3 ?_
      refine go_n 6 (f := (35, [some (.ref 0), some (.int (x1 + (gi σ 54 ((9 * x2) + (gi σ 51 x2.toNatClampNeg)).toNatClampNeg))), some (.int x2), some (.int (x2 + 1))], [], σ)) rfl ?_
      exact fX0_quarrelsOfRow_L35_ok _ _ _ hrec4 N0 _ _ _ hf
def fX0_quarrelsOfRow  (σ : Sg) : Option Int32 :=
  lp (fX0_quarrelsOfRow_L4  σ ) N0 (0, 0)
set_option maxHeartbeats 1500000 in
theorem fX0_quarrelsOfRow_ok  (σ : Sg) (r : Int32) (hf : fX0_quarrelsOfRow  σ = some r) : Cl true 0 5197 [.ref 0] σ (.inl (some (.int r)), σ) := by
  refine ⟨iX0_quarrelsOfRow, rfl, Nat.le_of_ble_eq_true rfl, Nat.le_of_ble_eq_true rfl, ?_⟩
  show Go true 0 iX0_quarrelsOfRow (0, [some (.ref 0), none, none, none], [], σ) (.inl (some (.int r)), σ)
  unfold fX0_quarrelsOfRow at hf
  refine go_n 4 (f := (4, [some (.ref 0), some (.int 0), some (.int 0), none], [], σ)) rfl ?_
  exact fX0_quarrelsOfRow_L4_ok  _   N0 _ _ _ hf
/-! OldWeather.chosen(I)I -/
def fX0_chosen (x1 : Int32) (σ : Sg) : Option Int32 :=
  if (gi σ 0 40) = (-1) then some (-1) else if x1 < (-1) then some (-1) else if x1 < (gi σ 0 40) then if x1 ≠ (-1) then if inb x1 5 then some (gi σ 52 x1.toNatClampNeg) else none else some (gi σ 0 41) else some (-1)
set_option maxHeartbeats 1500000 in
theorem fX0_chosen_ok (x1 : Int32) (σ : Sg) (r : Int32) (hf : fX0_chosen x1 σ = some r) : Cl true 0 5198 [.ref 0, .int x1] σ (.inl (some (.int r)), σ) := by
  refine ⟨iX0_chosen, rfl, Nat.le_of_ble_eq_true rfl, Nat.le_of_ble_eq_true rfl, ?_⟩
  show Go true 0 iX0_chosen (0, [some (.ref 0), some (.int x1)], [], σ) (.inl (some (.int r)), σ)
  unfold fX0_chosen at hf
  refine go_n 3 (f := (5, [some (.ref 0), some (.int x1)], [.int (-1), .int (gi σ 0 40)], σ)) rfl ?_
  by_cases h1 : (gi σ 0 40) = (-1)
  · rw [if_pos h1] at hf
    refine go_it (t := 21) (f := 8) (L1 := [some (.ref 0), some (.int x1)]) (st1 := []) (σ1 := σ) rfl h1 ?_
    refine go_e (L1 := [none, none]) rfl rfl ?_
    refine go_n 2 (f := (43, [none, none], [.int (-1)], σ)) rfl ?_
    cases hf
    exact go_r rfl
  · rw [if_neg h1] at hf
    refine go_if (t := 21) (f := 8) (L1 := [some (.ref 0), some (.int x1)]) (st1 := []) (σ1 := σ) rfl h1 ?_
    refine go_n 2 (f := (10, [some (.ref 0), some (.int x1)], [.int (-1), .int x1], σ)) rfl ?_
    by_cases h2 : x1 < (-1)
    · rw [if_pos h2] at hf
      refine go_it (t := 21) (f := 13) (L1 := [some (.ref 0), some (.int x1)]) (st1 := []) (σ1 := σ) rfl h2 ?_
      refine go_e (L1 := [none, none]) rfl rfl ?_
      refine go_n 2 (f := (43, [none, none], [.int (-1)], σ)) rfl ?_
      cases hf
      exact go_r rfl
    · rw [if_neg h2] at hf
      refine go_if (t := 21) (f := 13) (L1 := [some (.ref 0), some (.int x1)]) (st1 := []) (σ1 := σ) rfl h2 ?_
      refine go_n 3 (f := (18, [some (.ref 0), some (.int x1)], [.int (gi σ 0 40), .int x1], σ)) rfl ?_
      by_cases h3 : x1 < (gi σ 0 40)
      · rw [if_pos h3] at hf
        refine go_it (t := 25) (f := 21) (L1 := [some (.ref 0), some (.int x1)]) (st1 := []) (σ1 := σ) rfl h3 ?_
        refine go_n 2 (f := (27, [some (.ref 0), some (.int x1)], [.int (-1), .int x1], σ)) rfl ?_
        by_cases h4 : x1 ≠ (-1)
        · rw [if_pos h4] at hf
          refine go_it (t := 37) (f := 30) (L1 := [some (.ref 0), some (.int x1)]) (st1 := []) (σ1 := σ) rfl h4 ?_
          refine go_n 3 (f := (42, [some (.ref 0), some (.int x1)], [.int x1, .ref 52], σ)) rfl ?_
          obtain ⟨h5, hf⟩ := grd hf
          refine go_iald rfl rfl rfl h5 ?_
          refine go_e (L1 := [none, none]) rfl rfl ?_
          cases hf
          exact go_r rfl
        · rw [if_neg h4] at hf
          refine go_if (t := 37) (f := 30) (L1 := [some (.ref 0), some (.int x1)]) (st1 := []) (σ1 := σ) rfl h4 ?_
          refine go_n 3 (f := (43, [some (.ref 0), some (.int x1)], [.int (gi σ 0 41)], σ)) rfl ?_
          refine go_e (L1 := [none, none]) rfl rfl ?_
          cases hf
          exact go_r rfl
      · rw [if_neg h3] at hf
        refine go_if (t := 25) (f := 21) (L1 := [some (.ref 0), some (.int x1)]) (st1 := []) (σ1 := σ) rfl h3 ?_
        refine go_e (L1 := [none, none]) rfl rfl ?_
        refine go_n 2 (f := (43, [none, none], [.int (-1)], σ)) rfl ?_
        cases hf
        exact go_r rfl
/-! OldWeather.isYear(I)Z -/
def fX0_isYear (x0 : Int32) : Option Int32 :=
  (fX0_in x0 1601 1900).bind fun q1 => if am_ok 3 q1 = true then some q1 else none
set_option maxHeartbeats 1500000 in
theorem fX0_isYear_ok (x0 : Int32) (σ : Sg) (r : Int32) (hf : fX0_isYear x0 = some r) : Cl true 1 5202 [.int x0] σ (.inl (some (.int r)), σ) := by
  refine ⟨iX0_isYear, rfl, Nat.le_of_ble_eq_true rfl, Nat.le_of_ble_eq_true rfl, ?_⟩
  show Go true 1 iX0_isYear (0, [some (.int x0)], [], σ) (.inl (some (.int r)), σ)
  unfold fX0_isYear at hf
  refine go_n 3 (f := (7, [some (.int x0)], [.int 1900, .int 1601, .int x0], σ)) rfl ?_
  obtain ⟨q1, h2, hf⟩ := bnd hf
  refine go_c (mid := 5122) (args := [.int x0, .int 1601, .int 1900]) (pc := 10) (L := [some (.int x0)]) (st := []) (σ := σ) rfl ((fX0_in_ok _ _ _ _ q1 h2).deep (Nat.le_of_ble_eq_true rfl)) ?_
  obtain ⟨h3, hf⟩ := grd hf
  cases hf
  exact go_ret rfl rfl (Or.inr (Or.inl ⟨rfl, h3⟩))
/-! OldWeather.isMonth(II)Z -/
def fX0_isMonth (x0 : Int32) (x1 : Int32) : Option Int32 :=
  (fX0_in x0 1600 1900).bind fun q1 => if q1 = 0 then some 0 else (fX0_in x1 1 12).bind fun q4 => ((fun (z7 : Int32) => some z7) ((if q4 = 0 then 0 else 1) : Int32))
set_option maxHeartbeats 1500000 in
theorem fX0_isMonth_ok (x0 : Int32) (x1 : Int32) (σ : Sg) (r : Int32) (hf : fX0_isMonth x0 x1 = some r) : Cl true 1 5211 [.int x0, .int x1] σ (.inl (some (.int r)), σ) := by
  refine ⟨iX0_isMonth, rfl, Nat.le_of_ble_eq_true rfl, Nat.le_of_ble_eq_true rfl, ?_⟩
  show Go true 1 iX0_isMonth (0, [some (.int x0), some (.int x1)], [], σ) (.inl (some (.int r)), σ)
  unfold fX0_isMonth at hf
  refine go_n 3 (f := (7, [some (.int x0), some (.int x1)], [.int 1900, .int 1600, .int x0], σ)) rfl ?_
  obtain ⟨q1, h2, hf⟩ := bnd hf
  refine go_c (mid := 5122) (args := [.int x0, .int 1600, .int 1900]) (pc := 10) (L := [some (.int x0), some (.int x1)]) (st := []) (σ := σ) rfl ((fX0_in_ok _ _ _ _ q1 h2).deep (Nat.le_of_ble_eq_true rfl)) ?_
  by_cases h3 : q1 = 0
  · rw [if_pos h3] at hf
    refine go_it (t := 27) (f := 13) (L1 := [some (.int x0), some (.int x1)]) (st1 := []) (σ1 := σ) rfl h3 ?_
    refine go_e (L1 := [none, none]) rfl rfl ?_
    refine go_n 1 (f := (28, [none, none], [.int 0], σ)) rfl ?_
    cases hf
    exact go_r rfl
  · rw [if_neg h3] at hf
    refine go_if (t := 27) (f := 13) (L1 := [some (.int x0), some (.int x1)]) (st1 := []) (σ1 := σ) rfl h3 ?_
    refine go_n 3 (f := (17, [some (.int x0), some (.int x1)], [.int 12, .int 1, .int x1], σ)) rfl ?_
    obtain ⟨q4, h5, hf⟩ := bnd hf
    refine go_c (mid := 5122) (args := [.int x1, .int 1, .int 12]) (pc := 20) (L := [some (.int x0), some (.int x1)]) (st := []) (σ := σ) rfl ((fX0_in_ok _ _ _ _ q4 h5).deep (Nat.le_of_ble_eq_true rfl)) ?_
    refine go_m (f := (28, [none, none], [.int ((if q4 = 0 then 0 else 1) : Int32)], σ)) ?_ (fun hJ8 => ?_)
    · generalize hz7 : ((if q4 = 0 then 0 else 1) : Int32) = z7 at hf ⊢
      have oz7 : am_ok 3 z7 = true := hz7 ▸ (okb rfl rfl)
      try dsimp only at hf
      cases hf
      exact go_ret rfl rfl (Or.inr (Or.inl ⟨rfl, oz7⟩))
    · by_cases h6 : q4 = 0
      · refine go_it (t := 27) (f := 23) (L1 := [some (.int x0), some (.int x1)]) (st1 := []) (σ1 := σ) rfl h6 ?_
        refine go_e (L1 := [none, none]) rfl rfl ?_
        refine go_n 1 (f := (28, [none, none], [.int 0], σ)) rfl ?_
        refine go_e (L1 := [none, none]) rfl rfl ?_
        simp only [if_pos h6] at hJ8
        first | exact hJ8 | (simp only [if_pos h6]; exact hJ8)
      · refine go_if (t := 27) (f := 23) (L1 := [some (.int x0), some (.int x1)]) (st1 := []) (σ1 := σ) rfl h6 ?_
        refine go_n 2 (f := (28, [some (.int x0), some (.int x1)], [.int 1], σ)) rfl ?_
        refine go_e (L1 := [none, none]) rfl rfl ?_
        simp only [if_neg h6] at hJ8
        first | exact hJ8 | (simp only [if_neg h6]; exact hJ8)
/-! OldWeather.monthAt(II)I -/
def fX0_monthAt (x0 : Int32) (x1 : Int32) : Option Int32 :=
  some (((12 * (x0 - 1600)) + x1) - 1)
set_option maxHeartbeats 1500000 in
theorem fX0_monthAt_ok (x0 : Int32) (x1 : Int32) (σ : Sg) (r : Int32) (hf : fX0_monthAt x0 x1 = some r) : Cl true 0 5214 [.int x0, .int x1] σ (.inl (some (.int r)), σ) := by
  refine ⟨iX0_monthAt, rfl, Nat.le_of_ble_eq_true rfl, Nat.le_of_ble_eq_true rfl, ?_⟩
  show Go true 0 iX0_monthAt (0, [some (.int x0), some (.int x1)], [], σ) (.inl (some (.int r)), σ)
  unfold fX0_monthAt at hf
  refine go_n 9 (f := (12, [some (.int x0), some (.int x1)], [.int (((12 * (x0 - 1600)) + x1) - 1)], σ)) rfl ?_
  cases hf
  exact go_r rfl
/-! OldWeather.alter(II)I -/
def fX0_alter (x1 : Int32) (x2 : Int32) (σ : Sg) : Option (Int32 × Sg) :=
  (fX0_in x2 1 255).bind fun q1 => if q1 ≠ 0 then (fX0_isReading x1 σ).bind fun q4 => if q4 ≠ 0 then if inb x1 200 then if inb x1 200 then (fX0_told 0 (wi σ 18 x1.toNatClampNeg ((gi σ 18 x1.toNatClampNeg) ^^^ x2))).bind fun q9 => if inb x1 200 then some ((gi q9.2 18 x1.toNatClampNeg), q9.2) else none else none else none else (fX0_refuse (-2) σ).bind fun q12 => some (q12.1, q12.2) else (fX0_refuse (-1) σ).bind fun q14 => some (q14.1, q14.2)
set_option maxHeartbeats 1500000 in
theorem fX0_alter_ok (x1 : Int32) (x2 : Int32) (σ : Sg) (r : (Int32 × Sg)) (hf : fX0_alter x1 x2 σ = some r) : Cl true 2 5215 [.ref 0, .int x1, .int x2] σ (.inl (some (.int (r).1)), (r).2) := by
  refine ⟨iX0_alter, rfl, Nat.le_of_ble_eq_true rfl, Nat.le_of_ble_eq_true rfl, ?_⟩
  show Go true 2 iX0_alter (0, [some (.ref 0), some (.int x1), some (.int x2)], [], σ) (.inl (some (.int (r).1)), (r).2)
  unfold fX0_alter at hf
  refine go_n 3 (f := (5, [some (.ref 0), some (.int x1), some (.int x2)], [.int 255, .int 1, .int x2], σ)) rfl ?_
  obtain ⟨q1, h2, hf⟩ := bnd hf
  refine go_c (mid := 5122) (args := [.int x2, .int 1, .int 255]) (pc := 8) (L := [some (.ref 0), some (.int x1), some (.int x2)]) (st := []) (σ := σ) rfl ((fX0_in_ok _ _ _ _ q1 h2).deep (Nat.le_of_ble_eq_true rfl)) ?_
  by_cases h3 : q1 ≠ 0
  · rw [if_pos h3] at hf
    refine go_it (t := 17) (f := 11) (L1 := [some (.ref 0), some (.int x1), some (.int x2)]) (st1 := []) (σ1 := σ) rfl h3 ?_
    refine go_n 2 (f := (19, [some (.ref 0), some (.int x1), some (.int x2)], [.int x1, .ref 0], σ)) rfl ?_
    obtain ⟨q4, h5, hf⟩ := bnd hf
    refine go_c (mid := 5153) (args := [.ref 0, .int x1]) (pc := 22) (L := [some (.ref 0), some (.int x1), some (.int x2)]) (st := []) (σ := σ) rfl ((fX0_isReading_ok _ _ q4 h5).deep (Nat.le_of_ble_eq_true rfl)) ?_
    by_cases h6 : q4 ≠ 0
    · rw [if_pos h6] at hf
      refine go_it (t := 32) (f := 25) (L1 := [some (.ref 0), some (.int x1), some (.int x2)]) (st1 := []) (σ1 := σ) rfl h6 ?_
      refine go_n 5 (f := (41, [some (.ref 0), some (.int x1), some (.int x2)], [.int x1, .ref 18, .int x1, .ref 18], σ)) rfl ?_
      obtain ⟨h7, hf⟩ := grd hf
      refine go_iald rfl rfl rfl h7 ?_
      refine go_n 2 (f := (44, [some (.ref 0), some (.int x1), some (.int x2)], [.int ((gi σ 18 x1.toNatClampNeg) ^^^ x2), .int x1, .ref 18], σ)) rfl ?_
      obtain ⟨h8, hf⟩ := grd hf
      refine go_iast rfl rfl rfl h8 ?_
      refine go_n 2 (f := (47, [some (.ref 0), some (.int x1), some (.int x2)], [.int 0, .ref 0], (wi σ 18 x1.toNatClampNeg ((gi σ 18 x1.toNatClampNeg) ^^^ x2)))) rfl ?_
      obtain ⟨q9, h10, hf⟩ := bnd hf
      refine go_c (mid := 5136) (args := [.ref 0, .int 0]) (pc := 50) (L := [some (.ref 0), some (.int x1), some (.int x2)]) (st := []) (σ := (wi σ 18 x1.toNatClampNeg ((gi σ 18 x1.toNatClampNeg) ^^^ x2))) rfl ((fX0_told_ok _ _ q9 h10).deep (Nat.le_of_ble_eq_true rfl)) ?_
      refine go_n 5 (f := (59, [some (.ref 0), some (.int x1), some (.int x2)], [.int x1, .ref 18], q9.2)) rfl ?_
      obtain ⟨h11, hf⟩ := grd hf
      refine go_iald rfl rfl rfl h11 ?_
      cases hf
      exact go_r rfl
    · rw [if_neg h6] at hf
      refine go_if (t := 32) (f := 25) (L1 := [some (.ref 0), some (.int x1), some (.int x2)]) (st1 := []) (σ1 := σ) rfl h6 ?_
      refine go_n 2 (f := (28, [some (.ref 0), some (.int x1), some (.int x2)], [.int (-2), .ref 0], σ)) rfl ?_
      obtain ⟨q12, h13, hf⟩ := bnd hf
      refine go_c (mid := 5133) (args := [.ref 0, .int (-2)]) (pc := 31) (L := [some (.ref 0), some (.int x1), some (.int x2)]) (st := []) (σ := σ) rfl ((fX0_refuse_ok _ _ q12 h13).deep (Nat.le_of_ble_eq_true rfl)) ?_
      cases hf
      exact go_r rfl
  · rw [if_neg h3] at hf
    refine go_if (t := 17) (f := 11) (L1 := [some (.ref 0), some (.int x1), some (.int x2)]) (st1 := []) (σ1 := σ) rfl h3 ?_
    refine go_n 2 (f := (13, [some (.ref 0), some (.int x1), some (.int x2)], [.int (-1), .ref 0], σ)) rfl ?_
    obtain ⟨q14, h15, hf⟩ := bnd hf
    refine go_c (mid := 5133) (args := [.ref 0, .int (-1)]) (pc := 16) (L := [some (.ref 0), some (.int x1), some (.int x2)]) (st := []) (σ := σ) rfl ((fX0_refuse_ok _ _ q14 h15).deep (Nat.le_of_ble_eq_true rfl)) ?_
    cases hf
    exact go_r rfl
/-! OldWeather.count(I)I -/
def fX0_count (x1 : Int32) (σ : Sg) : Option Int32 :=
  if x1 = 0 then some (gi σ 1 18) else if x1 = 1 then some (gi σ 1 19) else if x1 = 2 then (fJ2_size 2 σ).bind fun q4 => some q4 else if x1 = 3 then (fJ2_size 4 σ).bind fun q7 => some q7 else if x1 = 4 then (fJ2_size 6 σ).bind fun q10 => some q10 else if x1 = 5 then (fJ2_size 8 σ).bind fun q13 => some q13 else if x1 = 6 then some (gi σ 0 39) else if x1 = 7 then some (gi σ 0 8) else some (-1)
set_option maxHeartbeats 1500000 in
theorem fX0_count_ok (x1 : Int32) (σ : Sg) (r : Int32) (hf : fX0_count x1 σ = some r) : Cl true 1 5217 [.ref 0, .int x1] σ (.inl (some (.int r)), σ) := by
  refine ⟨iX0_count, rfl, Nat.le_of_ble_eq_true rfl, Nat.le_of_ble_eq_true rfl, ?_⟩
  show Go true 1 iX0_count (0, [some (.ref 0), some (.int x1)], [], σ) (.inl (some (.int r)), σ)
  unfold fX0_count at hf
  refine go_n 1 (f := (1, [some (.ref 0), some (.int x1)], [.int x1], σ)) rfl ?_
  by_cases h1 : x1 = 0
  · rw [if_pos h1] at hf
    refine go_tsw (t := 48) rfl rfl (by rw [h1]; rfl) ?_
    refine go_n 3 (f := (55, [some (.ref 0), some (.int x1)], [.int (gi σ 1 18)], σ)) rfl ?_
    cases hf
    exact go_r rfl
  · rw [if_neg h1] at hf
    by_cases h2 : x1 = 1
    · rw [if_pos h2] at hf
      refine go_tsw (t := 56) rfl rfl (by rw [h2]; rfl) ?_
      refine go_n 3 (f := (63, [some (.ref 0), some (.int x1)], [.int (gi σ 1 19)], σ)) rfl ?_
      cases hf
      exact go_r rfl
    · rw [if_neg h2] at hf
      by_cases h3 : x1 = 2
      · rw [if_pos h3] at hf
        refine go_tsw (t := 64) rfl rfl (by rw [h3]; rfl) ?_
        refine go_n 3 (f := (71, [some (.ref 0), some (.int x1)], [.ref 2], σ)) rfl ?_
        obtain ⟨q4, h5, hf⟩ := bnd hf
        refine go_c (mid := 2821) (args := [.ref 2]) (pc := 74) (L := [some (.ref 0), some (.int x1)]) (st := []) (σ := σ) rfl ((fJ2_size_ok _ _ q4 h5).deep (Nat.le_of_ble_eq_true rfl)) ?_
        cases hf
        exact go_r rfl
      · rw [if_neg h3] at hf
        by_cases h6 : x1 = 3
        · rw [if_pos h6] at hf
          refine go_tsw (t := 75) rfl rfl (by rw [h6]; rfl) ?_
          refine go_n 3 (f := (82, [some (.ref 0), some (.int x1)], [.ref 4], σ)) rfl ?_
          obtain ⟨q7, h8, hf⟩ := bnd hf
          refine go_c (mid := 2821) (args := [.ref 4]) (pc := 85) (L := [some (.ref 0), some (.int x1)]) (st := []) (σ := σ) rfl ((fJ2_size_ok _ _ q7 h8).deep (Nat.le_of_ble_eq_true rfl)) ?_
          cases hf
          exact go_r rfl
        · rw [if_neg h6] at hf
          by_cases h9 : x1 = 4
          · rw [if_pos h9] at hf
            refine go_tsw (t := 86) rfl rfl (by rw [h9]; rfl) ?_
            refine go_n 3 (f := (93, [some (.ref 0), some (.int x1)], [.ref 6], σ)) rfl ?_
            obtain ⟨q10, h11, hf⟩ := bnd hf
            refine go_c (mid := 2821) (args := [.ref 6]) (pc := 96) (L := [some (.ref 0), some (.int x1)]) (st := []) (σ := σ) rfl ((fJ2_size_ok _ _ q10 h11).deep (Nat.le_of_ble_eq_true rfl)) ?_
            cases hf
            exact go_r rfl
          · rw [if_neg h9] at hf
            by_cases h12 : x1 = 5
            · rw [if_pos h12] at hf
              refine go_tsw (t := 97) rfl rfl (by rw [h12]; rfl) ?_
              refine go_n 3 (f := (104, [some (.ref 0), some (.int x1)], [.ref 8], σ)) rfl ?_
              obtain ⟨q13, h14, hf⟩ := bnd hf
              refine go_c (mid := 2821) (args := [.ref 8]) (pc := 107) (L := [some (.ref 0), some (.int x1)]) (st := []) (σ := σ) rfl ((fJ2_size_ok _ _ q13 h14).deep (Nat.le_of_ble_eq_true rfl)) ?_
              cases hf
              exact go_r rfl
            · rw [if_neg h12] at hf
              by_cases h15 : x1 = 6
              · rw [if_pos h15] at hf
                refine go_tsw (t := 108) rfl rfl (by rw [h15]; rfl) ?_
                refine go_n 2 (f := (112, [some (.ref 0), some (.int x1)], [.int (gi σ 0 39)], σ)) rfl ?_
                cases hf
                exact go_r rfl
              · rw [if_neg h15] at hf
                by_cases h16 : x1 = 7
                · rw [if_pos h16] at hf
                  refine go_tsw (t := 113) rfl rfl (by rw [h16]; rfl) ?_
                  refine go_n 2 (f := (117, [some (.ref 0), some (.int x1)], [.int (gi σ 0 8)], σ)) rfl ?_
                  cases hf
                  exact go_r rfl
                · rw [if_neg h16] at hf
                  have htt : am_ts 1 117 0 7 #[47, 55, 63, 74, 85, 96, 107, 112] x1 = some 118 := by
                    have hts : x1.toInt < 0 ∨ 7 < x1.toInt := by
                      have h1t : x1.toInt ≠ 0 := tsn h1
                      have h2t : x1.toInt ≠ 1 := tsn h2
                      have h3t : x1.toInt ≠ 2 := tsn h3
                      have h6t : x1.toInt ≠ 3 := tsn h6
                      have h9t : x1.toInt ≠ 4 := tsn h9
                      have h12t : x1.toInt ≠ 5 := tsn h12
                      have h15t : x1.toInt ≠ 6 := tsn h15
                      have h16t : x1.toInt ≠ 7 := tsn h16
                      omega
                    unfold am_ts; rw [if_pos hts]; rfl
                  refine go_tsw (t := 118) rfl rfl htt ?_
                  refine go_n 1 (f := (119, [some (.ref 0), some (.int x1)], [.int (-1)], σ)) rfl ?_
                  cases hf
                  exact go_r rfl
/-! OldWeather.status()I -/
def fX0_status  (σ : Sg) : Option Int32 :=
  some (gi σ 0 0)
set_option maxHeartbeats 1500000 in
theorem fX0_status_ok  (σ : Sg) (r : Int32) (hf : fX0_status  σ = some r) : Cl true 0 5218 [.ref 0] σ (.inl (some (.int r)), σ) := by
  refine ⟨iX0_status, rfl, Nat.le_of_ble_eq_true rfl, Nat.le_of_ble_eq_true rfl, ?_⟩
  show Go true 0 iX0_status (0, [some (.ref 0)], [], σ) (.inl (some (.int r)), σ)
  unfold fX0_status at hf
  refine go_n 2 (f := (4, [some (.ref 0)], [.int (gi σ 0 0)], σ)) rfl ?_
  cases hf
  exact go_r rfl
/-! OldWeather$Told.<init>()V -/
def fX1_init_L248 (x0 : Nat)  (rec248 : (Int32 × Sg) → Option Sg) (s : Int32 × Sg) : Option Sg :=
  match s with
  | (x1, σ) => if 3624 ≤ x1 then some σ else if [11].elem (kk σ x0) = true then (match (rf σ x0 15) with
  | some a85 => if (kk σ a85) = 1 then if inb x1 (kn σ a85) then rec248 ((x1 + 1), (wi σ a85 x1.toNatClampNeg (-1))) else none else none
  | none => none) else none
set_option maxHeartbeats 1500000 in
theorem fX1_init_L248_ok (x0 : Nat)   : ∀ (n : Nat) (x1 : Int32) (σ : Sg) (r : Sg), lp (fX1_init_L248 x0 ) n (x1, σ) = some r → Go true 3 iX1_init (248, [some (.ref x0), some (.int x1)], [], σ) (.inl none, r) := by
  intro n
  induction n with
  | zero => intro x1 σ r hf; cases hf
  | succ n ih =>
    intro x1 σ r hf
    have hf : fX1_init_L248 x0  (lp (fX1_init_L248 x0 ) n) (x1, σ) = some r := hf
    have hrec248 := ih
    generalize lp (fX1_init_L248 x0 ) n = rec248 at hf hrec248
    unfold fX1_init_L248 at hf
    dsimp only at hf
    refine go_n 2 (f := (252, [some (.ref x0), some (.int x1)], [.int 3624, .int x1], σ)) rfl ?_
    by_cases h84 : 3624 ≤ x1
    · rw [if_pos h84] at hf
      refine go_it (t := 268) (f := 255) (L1 := [some (.ref x0), some (.int x1)]) (st1 := []) (σ1 := σ) rfl h84 ?_
      cases hf
      exact go_r rfl
    · rw [if_neg h84] at hf
      refine go_if (t := 268) (f := 255) (L1 := [some (.ref x0), some (.int x1)]) (st1 := []) (σ1 := σ) rfl h84 ?_
      refine go_n 1 (f := (256, [some (.ref x0), some (.int x1)], [.ref x0], σ)) rfl ?_
      obtain ⟨h86, hf⟩ := grd hf
      refine go_get rfl rfl rfl h86 ?_
      show Go true 3 iX1_init (259, [some (.ref x0), some (.int x1)], va_rf (rf σ x0 15) :: [], σ) _
      generalize hR87 : (rf σ x0 15) = h90 at hf ⊢
      cases h90 with
      | none =>
        cases hf
      | some a85 =>
        refine go_n 2 (f := (261, [some (.ref x0), some (.int x1)], [.int (-1), .int x1, .ref a85], σ)) rfl ?_
        obtain ⟨h88, hf⟩ := grd hf
        obtain ⟨h89, hf⟩ := grd hf
        refine go_iast rfl rfl h88 h89 ?_
        refine go_n 2 (f := (248, [some (.ref x0), some (.int (x1 + 1))], [], (wi σ a85 x1.toNatClampNeg (-1)))) rfl ?_
        exact hrec248 _ _ _ hf
def fX1_init_L226 (x0 : Nat)  (rec226 : (Int32 × Sg) → Option Sg) (s : Int32 × Sg) : Option Sg :=
  match s with
  | (x1, σ) => if 160 ≤ x1 then lp (fX1_init_L248 x0 ) N0 (0, σ) else if [11].elem (kk σ x0) = true then (match (rf σ x0 14) with
  | some a91 => if (kk σ a91) = 1 then if inb x1 (kn σ a91) then rec226 ((x1 + 1), (wi σ a91 x1.toNatClampNeg (-1))) else none else none
  | none => none) else none
set_option maxHeartbeats 1500000 in
theorem fX1_init_L226_ok (x0 : Nat)   : ∀ (n : Nat) (x1 : Int32) (σ : Sg) (r : Sg), lp (fX1_init_L226 x0 ) n (x1, σ) = some r → Go true 3 iX1_init (226, [some (.ref x0), some (.int x1)], [], σ) (.inl none, r) := by
  intro n
  induction n with
  | zero => intro x1 σ r hf; cases hf
  | succ n ih =>
    intro x1 σ r hf
    have hf : fX1_init_L226 x0  (lp (fX1_init_L226 x0 ) n) (x1, σ) = some r := hf
    have hrec226 := ih
    generalize lp (fX1_init_L226 x0 ) n = rec226 at hf hrec226
    unfold fX1_init_L226 at hf
    dsimp only at hf
    refine go_n 2 (f := (230, [some (.ref x0), some (.int x1)], [.int 160, .int x1], σ)) rfl ?_
    by_cases h83 : 160 ≤ x1
    · rw [if_pos h83] at hf
      refine go_it (t := 246) (f := 233) (L1 := [some (.ref x0), some (.int x1)]) (st1 := []) (σ1 := σ) rfl h83 ?_
      refine go_n 2 (f := (248, [some (.ref x0), some (.int 0)], [], σ)) rfl ?_
      exact fX1_init_L248_ok _   N0 _ _ _ hf
    · rw [if_neg h83] at hf
      refine go_if (t := 246) (f := 233) (L1 := [some (.ref x0), some (.int x1)]) (st1 := []) (σ1 := σ) rfl h83 ?_
      refine go_n 1 (f := (234, [some (.ref x0), some (.int x1)], [.ref x0], σ)) rfl ?_
      obtain ⟨h92, hf⟩ := grd hf
      refine go_get rfl rfl rfl h92 ?_
      show Go true 3 iX1_init (237, [some (.ref x0), some (.int x1)], va_rf (rf σ x0 14) :: [], σ) _
      generalize hR93 : (rf σ x0 14) = h96 at hf ⊢
      cases h96 with
      | none =>
        cases hf
      | some a91 =>
        refine go_n 2 (f := (239, [some (.ref x0), some (.int x1)], [.int (-1), .int x1, .ref a91], σ)) rfl ?_
        obtain ⟨h94, hf⟩ := grd hf
        obtain ⟨h95, hf⟩ := grd hf
        refine go_iast rfl rfl h94 h95 ?_
        refine go_n 2 (f := (226, [some (.ref x0), some (.int (x1 + 1))], [], (wi σ a91 x1.toNatClampNeg (-1)))) rfl ?_
        exact hrec226 _ _ _ hf
def fX1_init_L199 (x0 : Nat)  (rec199 : (Int32 × Sg) → Option Sg) (s : Int32 × Sg) : Option Sg :=
  match s with
  | (x1, σ) => if 12 ≤ x1 then lp (fX1_init_L226 x0 ) N0 (0, σ) else if [11].elem (kk σ x0) = true then (match (rf σ x0 7) with
  | some a97 => if (kk σ a97) = 1 then if inb ((12 * x1) + x1) (kn σ a97) then rec199 ((x1 + 1), (wi σ a97 ((12 * x1) + x1).toNatClampNeg 100)) else none else none
  | none => none) else none
set_option maxHeartbeats 1500000 in
theorem fX1_init_L199_ok (x0 : Nat)   : ∀ (n : Nat) (x1 : Int32) (σ : Sg) (r : Sg), lp (fX1_init_L199 x0 ) n (x1, σ) = some r → Go true 3 iX1_init (199, [some (.ref x0), some (.int x1)], [], σ) (.inl none, r) := by
  intro n
  induction n with
  | zero => intro x1 σ r hf; cases hf
  | succ n ih =>
    intro x1 σ r hf
    have hf : fX1_init_L199 x0  (lp (fX1_init_L199 x0 ) n) (x1, σ) = some r := hf
    have hrec199 := ih
    generalize lp (fX1_init_L199 x0 ) n = rec199 at hf hrec199
    unfold fX1_init_L199 at hf
    dsimp only at hf
    refine go_n 2 (f := (202, [some (.ref x0), some (.int x1)], [.int 12, .int x1], σ)) rfl ?_
    by_cases h82 : 12 ≤ x1
    · rw [if_pos h82] at hf
      refine go_it (t := 224) (f := 205) (L1 := [some (.ref x0), some (.int x1)]) (st1 := []) (σ1 := σ) rfl h82 ?_
      refine go_n 2 (f := (226, [some (.ref x0), some (.int 0)], [], σ)) rfl ?_
      exact fX1_init_L226_ok _   N0 _ _ _ hf
    · rw [if_neg h82] at hf
      refine go_if (t := 224) (f := 205) (L1 := [some (.ref x0), some (.int x1)]) (st1 := []) (σ1 := σ) rfl h82 ?_
      refine go_n 1 (f := (206, [some (.ref x0), some (.int x1)], [.ref x0], σ)) rfl ?_
      obtain ⟨h98, hf⟩ := grd hf
      refine go_get rfl rfl rfl h98 ?_
      show Go true 3 iX1_init (209, [some (.ref x0), some (.int x1)], va_rf (rf σ x0 7) :: [], σ) _
      generalize hR99 : (rf σ x0 7) = h102 at hf ⊢
      cases h102 with
      | none =>
        cases hf
      | some a97 =>
        refine go_n 6 (f := (217, [some (.ref x0), some (.int x1)], [.int 100, .int ((12 * x1) + x1), .ref a97], σ)) rfl ?_
        obtain ⟨h100, hf⟩ := grd hf
        obtain ⟨h101, hf⟩ := grd hf
        refine go_iast rfl rfl h100 h101 ?_
        refine go_n 2 (f := (199, [some (.ref x0), some (.int (x1 + 1))], [], (wi σ a97 ((12 * x1) + x1).toNatClampNeg 100))) rfl ?_
        exact hrec199 _ _ _ hf
def fX1_init_L176 (x0 : Nat)  (rec176 : (Int32 × Sg) → Option Sg) (s : Int32 × Sg) : Option Sg :=
  match s with
  | (x1, σ) => if 144 ≤ x1 then lp (fX1_init_L199 x0 ) N0 (0, σ) else if [11].elem (kk σ x0) = true then (match (rf σ x0 6) with
  | some a103 => if (kk σ a103) = 1 then if inb x1 (kn σ a103) then rec176 ((x1 + 1), (wi σ a103 x1.toNatClampNeg 100)) else none else none
  | none => none) else none
set_option maxHeartbeats 1500000 in
theorem fX1_init_L176_ok (x0 : Nat)   : ∀ (n : Nat) (x1 : Int32) (σ : Sg) (r : Sg), lp (fX1_init_L176 x0 ) n (x1, σ) = some r → Go true 3 iX1_init (176, [some (.ref x0), some (.int x1)], [], σ) (.inl none, r) := by
  intro n
  induction n with
  | zero => intro x1 σ r hf; cases hf
  | succ n ih =>
    intro x1 σ r hf
    have hf : fX1_init_L176 x0  (lp (fX1_init_L176 x0 ) n) (x1, σ) = some r := hf
    have hrec176 := ih
    generalize lp (fX1_init_L176 x0 ) n = rec176 at hf hrec176
    unfold fX1_init_L176 at hf
    dsimp only at hf
    refine go_n 2 (f := (180, [some (.ref x0), some (.int x1)], [.int 144, .int x1], σ)) rfl ?_
    by_cases h81 : 144 ≤ x1
    · rw [if_pos h81] at hf
      refine go_it (t := 197) (f := 183) (L1 := [some (.ref x0), some (.int x1)]) (st1 := []) (σ1 := σ) rfl h81 ?_
      refine go_n 2 (f := (199, [some (.ref x0), some (.int 0)], [], σ)) rfl ?_
      exact fX1_init_L199_ok _   N0 _ _ _ hf
    · rw [if_neg h81] at hf
      refine go_if (t := 197) (f := 183) (L1 := [some (.ref x0), some (.int x1)]) (st1 := []) (σ1 := σ) rfl h81 ?_
      refine go_n 1 (f := (184, [some (.ref x0), some (.int x1)], [.ref x0], σ)) rfl ?_
      obtain ⟨h104, hf⟩ := grd hf
      refine go_get rfl rfl rfl h104 ?_
      show Go true 3 iX1_init (187, [some (.ref x0), some (.int x1)], va_rf (rf σ x0 6) :: [], σ) _
      generalize hR105 : (rf σ x0 6) = h108 at hf ⊢
      cases h108 with
      | none =>
        cases hf
      | some a103 =>
        refine go_n 2 (f := (190, [some (.ref x0), some (.int x1)], [.int 100, .int x1, .ref a103], σ)) rfl ?_
        obtain ⟨h106, hf⟩ := grd hf
        obtain ⟨h107, hf⟩ := grd hf
        refine go_iast rfl rfl h106 h107 ?_
        refine go_n 2 (f := (176, [some (.ref x0), some (.int (x1 + 1))], [], (wi σ a103 x1.toNatClampNeg 100))) rfl ?_
        exact hrec176 _ _ _ hf
def fX1_init (x0 : Nat) (σ : Sg) : Option Sg :=
  (am_new σ (16, 0) 3).bind fun σ2 => (fJ2_init (gz σ) 8 σ2).bind fun q3 => if [11].elem (kk q3 x0) = true then if (stT true x0 0).isNone = true then (am_new (wr q3 x0 0 (some (gz σ))) (16, 0) 3).bind fun σ8 => (fJ2_init (gz (wr q3 x0 0 (some (gz σ)))) 4 σ8).bind fun q9 => if [11].elem (kk q9 x0) = true then if (stT true x0 1).isNone = true then (am_new (wr q9 x0 1 (some (gz (wr q3 x0 0 (some (gz σ)))))) (16, 0) 3).bind fun σ14 => (fJ2_init (gz (wr q9 x0 1 (some (gz (wr q3 x0 0 (some (gz σ))))))) 4 σ14).bind fun q15 => if [11].elem (kk q15 x0) = true then if (stT true x0 2).isNone = true then (am_new (wr q15 x0 2 (some (gz (wr q9 x0 1 (some (gz (wr q3 x0 0 (some (gz σ))))))))) (16, 0) 3).bind fun σ20 => (fJ2_init (gz (wr q15 x0 2 (some (gz (wr q9 x0 1 (some (gz (wr q3 x0 0 (some (gz σ)))))))))) 4 σ20).bind fun q21 => if [11].elem (kk q21 x0) = true then if (stT true x0 3).isNone = true then (am_new (wr q21 x0 3 (some (gz (wr q15 x0 2 (some (gz (wr q9 x0 1 (some (gz (wr q3 x0 0 (some (gz σ)))))))))))) (1, (12 : Int32).toNatClampNeg) (12 : Int32).toNatClampNeg).bind fun σ26 => if [11].elem (kk σ26 x0) = true then if (stT true x0 4).isNone = true then (am_new (wr σ26 x0 4 (some (gz (wr q21 x0 3 (some (gz (wr q15 x0 2 (some (gz (wr q9 x0 1 (some (gz (wr q3 x0 0 (some (gz σ))))))))))))))) (1, (144 : Int32).toNatClampNeg) (144 : Int32).toNatClampNeg).bind fun σ30 => if [11].elem (kk σ30 x0) = true then if (stT true x0 5).isNone = true then (am_new (wr σ30 x0 5 (some (gz (wr σ26 x0 4 (some (gz (wr q21 x0 3 (some (gz (wr q15 x0 2 (some (gz (wr q9 x0 1 (some (gz (wr q3 x0 0 (some (gz σ)))))))))))))))))) (1, (144 : Int32).toNatClampNeg) (144 : Int32).toNatClampNeg).bind fun σ34 => if [11].elem (kk σ34 x0) = true then if (stT true x0 6).isNone = true then (am_new (wr σ34 x0 6 (some (gz (wr σ30 x0 5 (some (gz (wr σ26 x0 4 (some (gz (wr q21 x0 3 (some (gz (wr q15 x0 2 (some (gz (wr q9 x0 1 (some (gz (wr q3 x0 0 (some (gz σ))))))))))))))))))))) (1, (144 : Int32).toNatClampNeg) (144 : Int32).toNatClampNeg).bind fun σ38 => if [11].elem (kk σ38 x0) = true then if (stT true x0 7).isNone = true then (am_new (wr σ38 x0 7 (some (gz (wr σ34 x0 6 (some (gz (wr σ30 x0 5 (some (gz (wr σ26 x0 4 (some (gz (wr q21 x0 3 (some (gz (wr q15 x0 2 (some (gz (wr q9 x0 1 (some (gz (wr q3 x0 0 (some (gz σ)))))))))))))))))))))))) (1, (16 : Int32).toNatClampNeg) (16 : Int32).toNatClampNeg).bind fun σ42 => if [11].elem (kk σ42 x0) = true then if (stT true x0 8).isNone = true then (am_new (wr σ42 x0 8 (some (gz (wr σ38 x0 7 (some (gz (wr σ34 x0 6 (some (gz (wr σ30 x0 5 (some (gz (wr σ26 x0 4 (some (gz (wr q21 x0 3 (some (gz (wr q15 x0 2 (some (gz (wr q9 x0 1 (some (gz (wr q3 x0 0 (some (gz σ))))))))))))))))))))))))))) (1, (16 : Int32).toNatClampNeg) (16 : Int32).toNatClampNeg).bind fun σ46 => if [11].elem (kk σ46 x0) = true then if (stT true x0 9).isNone = true then (am_new (wr σ46 x0 9 (some (gz (wr σ42 x0 8 (some (gz (wr σ38 x0 7 (some (gz (wr σ34 x0 6 (some (gz (wr σ30 x0 5 (some (gz (wr σ26 x0 4 (some (gz (wr q21 x0 3 (some (gz (wr q15 x0 2 (some (gz (wr q9 x0 1 (some (gz (wr q3 x0 0 (some (gz σ)))))))))))))))))))))))))))))) (1, (16 : Int32).toNatClampNeg) (16 : Int32).toNatClampNeg).bind fun σ50 => if [11].elem (kk σ50 x0) = true then if (stT true x0 10).isNone = true then (am_new (wr σ50 x0 10 (some (gz (wr σ46 x0 9 (some (gz (wr σ42 x0 8 (some (gz (wr σ38 x0 7 (some (gz (wr σ34 x0 6 (some (gz (wr σ30 x0 5 (some (gz (wr σ26 x0 4 (some (gz (wr q21 x0 3 (some (gz (wr q15 x0 2 (some (gz (wr q9 x0 1 (some (gz (wr q3 x0 0 (some (gz σ))))))))))))))))))))))))))))))))) (1, (16 : Int32).toNatClampNeg) (16 : Int32).toNatClampNeg).bind fun σ54 => if [11].elem (kk σ54 x0) = true then if (stT true x0 11).isNone = true then (am_new (wr σ54 x0 11 (some (gz (wr σ50 x0 10 (some (gz (wr σ46 x0 9 (some (gz (wr σ42 x0 8 (some (gz (wr σ38 x0 7 (some (gz (wr σ34 x0 6 (some (gz (wr σ30 x0 5 (some (gz (wr σ26 x0 4 (some (gz (wr q21 x0 3 (some (gz (wr q15 x0 2 (some (gz (wr q9 x0 1 (some (gz (wr q3 x0 0 (some (gz σ)))))))))))))))))))))))))))))))))))) (1, (200 : Int32).toNatClampNeg) (200 : Int32).toNatClampNeg).bind fun σ58 => if [11].elem (kk σ58 x0) = true then if (stT true x0 12).isNone = true then (am_new (wr σ58 x0 12 (some (gz (wr σ54 x0 11 (some (gz (wr σ50 x0 10 (some (gz (wr σ46 x0 9 (some (gz (wr σ42 x0 8 (some (gz (wr σ38 x0 7 (some (gz (wr σ34 x0 6 (some (gz (wr σ30 x0 5 (some (gz (wr σ26 x0 4 (some (gz (wr q21 x0 3 (some (gz (wr q15 x0 2 (some (gz (wr q9 x0 1 (some (gz (wr q3 x0 0 (some (gz σ))))))))))))))))))))))))))))))))))))))) (1, (200 : Int32).toNatClampNeg) (200 : Int32).toNatClampNeg).bind fun σ62 => if [11].elem (kk σ62 x0) = true then if (stT true x0 13).isNone = true then (am_new (wr σ62 x0 13 (some (gz (wr σ58 x0 12 (some (gz (wr σ54 x0 11 (some (gz (wr σ50 x0 10 (some (gz (wr σ46 x0 9 (some (gz (wr σ42 x0 8 (some (gz (wr σ38 x0 7 (some (gz (wr σ34 x0 6 (some (gz (wr σ30 x0 5 (some (gz (wr σ26 x0 4 (some (gz (wr q21 x0 3 (some (gz (wr q15 x0 2 (some (gz (wr q9 x0 1 (some (gz (wr q3 x0 0 (some (gz σ)))))))))))))))))))))))))))))))))))))))))) (1, (160 : Int32).toNatClampNeg) (160 : Int32).toNatClampNeg).bind fun σ66 => if [11].elem (kk σ66 x0) = true then if (stT true x0 14).isNone = true then (am_new (wr σ66 x0 14 (some (gz (wr σ62 x0 13 (some (gz (wr σ58 x0 12 (some (gz (wr σ54 x0 11 (some (gz (wr σ50 x0 10 (some (gz (wr σ46 x0 9 (some (gz (wr σ42 x0 8 (some (gz (wr σ38 x0 7 (some (gz (wr σ34 x0 6 (some (gz (wr σ30 x0 5 (some (gz (wr σ26 x0 4 (some (gz (wr q21 x0 3 (some (gz (wr q15 x0 2 (some (gz (wr q9 x0 1 (some (gz (wr q3 x0 0 (some (gz σ))))))))))))))))))))))))))))))))))))))))))))) (1, (3624 : Int32).toNatClampNeg) (3624 : Int32).toNatClampNeg).bind fun σ70 => if [11].elem (kk σ70 x0) = true then if (stT true x0 15).isNone = true then (am_new (wr σ70 x0 15 (some (gz (wr σ66 x0 14 (some (gz (wr σ62 x0 13 (some (gz (wr σ58 x0 12 (some (gz (wr σ54 x0 11 (some (gz (wr σ50 x0 10 (some (gz (wr σ46 x0 9 (some (gz (wr σ42 x0 8 (some (gz (wr σ38 x0 7 (some (gz (wr σ34 x0 6 (some (gz (wr σ30 x0 5 (some (gz (wr σ26 x0 4 (some (gz (wr q21 x0 3 (some (gz (wr q15 x0 2 (some (gz (wr q9 x0 1 (some (gz (wr q3 x0 0 (some (gz σ)))))))))))))))))))))))))))))))))))))))))))))))) (2, (3624 : Int32).toNatClampNeg) (3624 : Int32).toNatClampNeg).bind fun σ74 => if [11].elem (kk σ74 x0) = true then if (stT true x0 16).isNone = true then (am_new (wr σ74 x0 16 (some (gz (wr σ70 x0 15 (some (gz (wr σ66 x0 14 (some (gz (wr σ62 x0 13 (some (gz (wr σ58 x0 12 (some (gz (wr σ54 x0 11 (some (gz (wr σ50 x0 10 (some (gz (wr σ46 x0 9 (some (gz (wr σ42 x0 8 (some (gz (wr σ38 x0 7 (some (gz (wr σ34 x0 6 (some (gz (wr σ30 x0 5 (some (gz (wr σ26 x0 4 (some (gz (wr q21 x0 3 (some (gz (wr q15 x0 2 (some (gz (wr q9 x0 1 (some (gz (wr q3 x0 0 (some (gz σ))))))))))))))))))))))))))))))))))))))))))))))))))) (2, (3624 : Int32).toNatClampNeg) (3624 : Int32).toNatClampNeg).bind fun σ78 => if [11].elem (kk σ78 x0) = true then if (stT true x0 17).isNone = true then lp (fX1_init_L176 x0 ) N0 (0, (wr σ78 x0 17 (some (gz (wr σ74 x0 16 (some (gz (wr σ70 x0 15 (some (gz (wr σ66 x0 14 (some (gz (wr σ62 x0 13 (some (gz (wr σ58 x0 12 (some (gz (wr σ54 x0 11 (some (gz (wr σ50 x0 10 (some (gz (wr σ46 x0 9 (some (gz (wr σ42 x0 8 (some (gz (wr σ38 x0 7 (some (gz (wr σ34 x0 6 (some (gz (wr σ30 x0 5 (some (gz (wr σ26 x0 4 (some (gz (wr q21 x0 3 (some (gz (wr q15 x0 2 (some (gz (wr q9 x0 1 (some (gz (wr q3 x0 0 (some (gz σ))))))))))))))))))))))))))))))))))))))))))))))))))))))) else none else none else none else none else none else none else none else none else none else none else none else none else none else none else none else none else none else none else none else none else none else none else none else none else none else none else none else none else none else none else none else none else none else none else none else none
set_option maxHeartbeats 1500000 in
theorem fX1_init_ok (x0 : Nat) (σ : Sg) (r : Sg) (hf : fX1_init x0 σ = some r) : Cl true 3 5376 [.ref x0] σ (.inl none, r) := by
  refine ⟨iX1_init, rfl, Nat.le_of_ble_eq_true rfl, Nat.le_of_ble_eq_true rfl, ?_⟩
  show Go true 3 iX1_init (0, [some (.ref x0), none], [], σ) (.inl none, r)
  unfold fX1_init at hf
  refine go_n 1 (f := (1, [some (.ref x0), none], [.ref x0], σ)) rfl ?_
  refine go_b (mid := 20000) (args := [.ref x0]) (pc := 4) (L := [some (.ref x0), none]) (st := []) (σ := σ) rfl (by decide) rfl ?_
  refine go_n 1 (f := (5, [some (.ref x0), none], [.ref x0], σ)) rfl ?_
  obtain ⟨σ2, h1, hf⟩ := bnd hf
  refine go_new rfl rfl rfl h1 ?_
  refine go_n 2 (f := (11, [some (.ref x0), none], [.int 8, .ref (gz σ), .ref (gz σ), .ref x0], σ2)) rfl ?_
  obtain ⟨q3, h4, hf⟩ := bnd hf
  refine go_c (mid := 2816) (args := [.ref (gz σ), .int 8]) (pc := 14) (L := [some (.ref x0), none]) (st := [.ref (gz σ), .ref x0]) (σ := σ2) rfl ((fJ2_init_ok _ _ _ q3 h4).deep (Nat.le_of_ble_eq_true rfl)) ?_
  obtain ⟨h5, hf⟩ := grd hf
  obtain ⟨h6, hf⟩ := grd hf
  refine go_putr rfl rfl rfl h5 rfl h6 ?_
  refine go_n 1 (f := (18, [some (.ref x0), none], [.ref x0], (wr q3 x0 0 (some (gz σ))))) rfl ?_
  obtain ⟨σ8, h7, hf⟩ := bnd hf
  refine go_new rfl rfl rfl h7 ?_
  refine go_n 2 (f := (23, [some (.ref x0), none], [.int 4, .ref (gz (wr q3 x0 0 (some (gz σ)))), .ref (gz (wr q3 x0 0 (some (gz σ)))), .ref x0], σ8)) rfl ?_
  obtain ⟨q9, h10, hf⟩ := bnd hf
  refine go_c (mid := 2816) (args := [.ref (gz (wr q3 x0 0 (some (gz σ)))), .int 4]) (pc := 26) (L := [some (.ref x0), none]) (st := [.ref (gz (wr q3 x0 0 (some (gz σ)))), .ref x0]) (σ := σ8) rfl ((fJ2_init_ok _ _ _ q9 h10).deep (Nat.le_of_ble_eq_true rfl)) ?_
  obtain ⟨h11, hf⟩ := grd hf
  obtain ⟨h12, hf⟩ := grd hf
  refine go_putr rfl rfl rfl h11 rfl h12 ?_
  refine go_n 1 (f := (30, [some (.ref x0), none], [.ref x0], (wr q9 x0 1 (some (gz (wr q3 x0 0 (some (gz σ)))))))) rfl ?_
  obtain ⟨σ14, h13, hf⟩ := bnd hf
  refine go_new rfl rfl rfl h13 ?_
  refine go_n 2 (f := (35, [some (.ref x0), none], [.int 4, .ref (gz (wr q9 x0 1 (some (gz (wr q3 x0 0 (some (gz σ))))))), .ref (gz (wr q9 x0 1 (some (gz (wr q3 x0 0 (some (gz σ))))))), .ref x0], σ14)) rfl ?_
  obtain ⟨q15, h16, hf⟩ := bnd hf
  refine go_c (mid := 2816) (args := [.ref (gz (wr q9 x0 1 (some (gz (wr q3 x0 0 (some (gz σ))))))), .int 4]) (pc := 38) (L := [some (.ref x0), none]) (st := [.ref (gz (wr q9 x0 1 (some (gz (wr q3 x0 0 (some (gz σ))))))), .ref x0]) (σ := σ14) rfl ((fJ2_init_ok _ _ _ q15 h16).deep (Nat.le_of_ble_eq_true rfl)) ?_
  obtain ⟨h17, hf⟩ := grd hf
  obtain ⟨h18, hf⟩ := grd hf
  refine go_putr rfl rfl rfl h17 rfl h18 ?_
  refine go_n 1 (f := (42, [some (.ref x0), none], [.ref x0], (wr q15 x0 2 (some (gz (wr q9 x0 1 (some (gz (wr q3 x0 0 (some (gz σ))))))))))) rfl ?_
  obtain ⟨σ20, h19, hf⟩ := bnd hf
  refine go_new rfl rfl rfl h19 ?_
  refine go_n 2 (f := (47, [some (.ref x0), none], [.int 4, .ref (gz (wr q15 x0 2 (some (gz (wr q9 x0 1 (some (gz (wr q3 x0 0 (some (gz σ)))))))))), .ref (gz (wr q15 x0 2 (some (gz (wr q9 x0 1 (some (gz (wr q3 x0 0 (some (gz σ)))))))))), .ref x0], σ20)) rfl ?_
  obtain ⟨q21, h22, hf⟩ := bnd hf
  refine go_c (mid := 2816) (args := [.ref (gz (wr q15 x0 2 (some (gz (wr q9 x0 1 (some (gz (wr q3 x0 0 (some (gz σ)))))))))), .int 4]) (pc := 50) (L := [some (.ref x0), none]) (st := [.ref (gz (wr q15 x0 2 (some (gz (wr q9 x0 1 (some (gz (wr q3 x0 0 (some (gz σ)))))))))), .ref x0]) (σ := σ20) rfl ((fJ2_init_ok _ _ _ q21 h22).deep (Nat.le_of_ble_eq_true rfl)) ?_
  obtain ⟨h23, hf⟩ := grd hf
  obtain ⟨h24, hf⟩ := grd hf
  refine go_putr rfl rfl rfl h23 rfl h24 ?_
  refine go_n 2 (f := (56, [some (.ref x0), none], [.int 12, .ref x0], (wr q21 x0 3 (some (gz (wr q15 x0 2 (some (gz (wr q9 x0 1 (some (gz (wr q3 x0 0 (some (gz σ)))))))))))))) rfl ?_
  obtain ⟨σ26, h25, hf⟩ := bnd hf
  refine go_newarr rfl rfl rfl (by decide) h25 ?_
  obtain ⟨h27, hf⟩ := grd hf
  obtain ⟨h28, hf⟩ := grd hf
  refine go_putr rfl rfl rfl h27 rfl h28 ?_
  refine go_n 2 (f := (65, [some (.ref x0), none], [.int 144, .ref x0], (wr σ26 x0 4 (some (gz (wr q21 x0 3 (some (gz (wr q15 x0 2 (some (gz (wr q9 x0 1 (some (gz (wr q3 x0 0 (some (gz σ))))))))))))))))) rfl ?_
  obtain ⟨σ30, h29, hf⟩ := bnd hf
  refine go_newarr rfl rfl rfl (by decide) h29 ?_
  obtain ⟨h31, hf⟩ := grd hf
  obtain ⟨h32, hf⟩ := grd hf
  refine go_putr rfl rfl rfl h31 rfl h32 ?_
  refine go_n 2 (f := (74, [some (.ref x0), none], [.int 144, .ref x0], (wr σ30 x0 5 (some (gz (wr σ26 x0 4 (some (gz (wr q21 x0 3 (some (gz (wr q15 x0 2 (some (gz (wr q9 x0 1 (some (gz (wr q3 x0 0 (some (gz σ)))))))))))))))))))) rfl ?_
  obtain ⟨σ34, h33, hf⟩ := bnd hf
  refine go_newarr rfl rfl rfl (by decide) h33 ?_
  obtain ⟨h35, hf⟩ := grd hf
  obtain ⟨h36, hf⟩ := grd hf
  refine go_putr rfl rfl rfl h35 rfl h36 ?_
  refine go_n 2 (f := (83, [some (.ref x0), none], [.int 144, .ref x0], (wr σ34 x0 6 (some (gz (wr σ30 x0 5 (some (gz (wr σ26 x0 4 (some (gz (wr q21 x0 3 (some (gz (wr q15 x0 2 (some (gz (wr q9 x0 1 (some (gz (wr q3 x0 0 (some (gz σ))))))))))))))))))))))) rfl ?_
  obtain ⟨σ38, h37, hf⟩ := bnd hf
  refine go_newarr rfl rfl rfl (by decide) h37 ?_
  obtain ⟨h39, hf⟩ := grd hf
  obtain ⟨h40, hf⟩ := grd hf
  refine go_putr rfl rfl rfl h39 rfl h40 ?_
  refine go_n 2 (f := (91, [some (.ref x0), none], [.int 16, .ref x0], (wr σ38 x0 7 (some (gz (wr σ34 x0 6 (some (gz (wr σ30 x0 5 (some (gz (wr σ26 x0 4 (some (gz (wr q21 x0 3 (some (gz (wr q15 x0 2 (some (gz (wr q9 x0 1 (some (gz (wr q3 x0 0 (some (gz σ)))))))))))))))))))))))))) rfl ?_
  obtain ⟨σ42, h41, hf⟩ := bnd hf
  refine go_newarr rfl rfl rfl (by decide) h41 ?_
  obtain ⟨h43, hf⟩ := grd hf
  obtain ⟨h44, hf⟩ := grd hf
  refine go_putr rfl rfl rfl h43 rfl h44 ?_
  refine go_n 2 (f := (99, [some (.ref x0), none], [.int 16, .ref x0], (wr σ42 x0 8 (some (gz (wr σ38 x0 7 (some (gz (wr σ34 x0 6 (some (gz (wr σ30 x0 5 (some (gz (wr σ26 x0 4 (some (gz (wr q21 x0 3 (some (gz (wr q15 x0 2 (some (gz (wr q9 x0 1 (some (gz (wr q3 x0 0 (some (gz σ))))))))))))))))))))))))))))) rfl ?_
  obtain ⟨σ46, h45, hf⟩ := bnd hf
  refine go_newarr rfl rfl rfl (by decide) h45 ?_
  obtain ⟨h47, hf⟩ := grd hf
  obtain ⟨h48, hf⟩ := grd hf
  refine go_putr rfl rfl rfl h47 rfl h48 ?_
  refine go_n 2 (f := (107, [some (.ref x0), none], [.int 16, .ref x0], (wr σ46 x0 9 (some (gz (wr σ42 x0 8 (some (gz (wr σ38 x0 7 (some (gz (wr σ34 x0 6 (some (gz (wr σ30 x0 5 (some (gz (wr σ26 x0 4 (some (gz (wr q21 x0 3 (some (gz (wr q15 x0 2 (some (gz (wr q9 x0 1 (some (gz (wr q3 x0 0 (some (gz σ)))))))))))))))))))))))))))))))) rfl ?_
  obtain ⟨σ50, h49, hf⟩ := bnd hf
  refine go_newarr rfl rfl rfl (by decide) h49 ?_
  obtain ⟨h51, hf⟩ := grd hf
  obtain ⟨h52, hf⟩ := grd hf
  refine go_putr rfl rfl rfl h51 rfl h52 ?_
  refine go_n 2 (f := (115, [some (.ref x0), none], [.int 16, .ref x0], (wr σ50 x0 10 (some (gz (wr σ46 x0 9 (some (gz (wr σ42 x0 8 (some (gz (wr σ38 x0 7 (some (gz (wr σ34 x0 6 (some (gz (wr σ30 x0 5 (some (gz (wr σ26 x0 4 (some (gz (wr q21 x0 3 (some (gz (wr q15 x0 2 (some (gz (wr q9 x0 1 (some (gz (wr q3 x0 0 (some (gz σ))))))))))))))))))))))))))))))))))) rfl ?_
  obtain ⟨σ54, h53, hf⟩ := bnd hf
  refine go_newarr rfl rfl rfl (by decide) h53 ?_
  obtain ⟨h55, hf⟩ := grd hf
  obtain ⟨h56, hf⟩ := grd hf
  refine go_putr rfl rfl rfl h55 rfl h56 ?_
  refine go_n 2 (f := (124, [some (.ref x0), none], [.int 200, .ref x0], (wr σ54 x0 11 (some (gz (wr σ50 x0 10 (some (gz (wr σ46 x0 9 (some (gz (wr σ42 x0 8 (some (gz (wr σ38 x0 7 (some (gz (wr σ34 x0 6 (some (gz (wr σ30 x0 5 (some (gz (wr σ26 x0 4 (some (gz (wr q21 x0 3 (some (gz (wr q15 x0 2 (some (gz (wr q9 x0 1 (some (gz (wr q3 x0 0 (some (gz σ)))))))))))))))))))))))))))))))))))))) rfl ?_
  obtain ⟨σ58, h57, hf⟩ := bnd hf
  refine go_newarr rfl rfl rfl (by decide) h57 ?_
  obtain ⟨h59, hf⟩ := grd hf
  obtain ⟨h60, hf⟩ := grd hf
  refine go_putr rfl rfl rfl h59 rfl h60 ?_
  refine go_n 2 (f := (133, [some (.ref x0), none], [.int 200, .ref x0], (wr σ58 x0 12 (some (gz (wr σ54 x0 11 (some (gz (wr σ50 x0 10 (some (gz (wr σ46 x0 9 (some (gz (wr σ42 x0 8 (some (gz (wr σ38 x0 7 (some (gz (wr σ34 x0 6 (some (gz (wr σ30 x0 5 (some (gz (wr σ26 x0 4 (some (gz (wr q21 x0 3 (some (gz (wr q15 x0 2 (some (gz (wr q9 x0 1 (some (gz (wr q3 x0 0 (some (gz σ))))))))))))))))))))))))))))))))))))))))) rfl ?_
  obtain ⟨σ62, h61, hf⟩ := bnd hf
  refine go_newarr rfl rfl rfl (by decide) h61 ?_
  obtain ⟨h63, hf⟩ := grd hf
  obtain ⟨h64, hf⟩ := grd hf
  refine go_putr rfl rfl rfl h63 rfl h64 ?_
  refine go_n 2 (f := (142, [some (.ref x0), none], [.int 160, .ref x0], (wr σ62 x0 13 (some (gz (wr σ58 x0 12 (some (gz (wr σ54 x0 11 (some (gz (wr σ50 x0 10 (some (gz (wr σ46 x0 9 (some (gz (wr σ42 x0 8 (some (gz (wr σ38 x0 7 (some (gz (wr σ34 x0 6 (some (gz (wr σ30 x0 5 (some (gz (wr σ26 x0 4 (some (gz (wr q21 x0 3 (some (gz (wr q15 x0 2 (some (gz (wr q9 x0 1 (some (gz (wr q3 x0 0 (some (gz σ)))))))))))))))))))))))))))))))))))))))))))) rfl ?_
  obtain ⟨σ66, h65, hf⟩ := bnd hf
  refine go_newarr rfl rfl rfl (by decide) h65 ?_
  obtain ⟨h67, hf⟩ := grd hf
  obtain ⟨h68, hf⟩ := grd hf
  refine go_putr rfl rfl rfl h67 rfl h68 ?_
  refine go_n 2 (f := (151, [some (.ref x0), none], [.int 3624, .ref x0], (wr σ66 x0 14 (some (gz (wr σ62 x0 13 (some (gz (wr σ58 x0 12 (some (gz (wr σ54 x0 11 (some (gz (wr σ50 x0 10 (some (gz (wr σ46 x0 9 (some (gz (wr σ42 x0 8 (some (gz (wr σ38 x0 7 (some (gz (wr σ34 x0 6 (some (gz (wr σ30 x0 5 (some (gz (wr σ26 x0 4 (some (gz (wr q21 x0 3 (some (gz (wr q15 x0 2 (some (gz (wr q9 x0 1 (some (gz (wr q3 x0 0 (some (gz σ))))))))))))))))))))))))))))))))))))))))))))))) rfl ?_
  obtain ⟨σ70, h69, hf⟩ := bnd hf
  refine go_newarr rfl rfl rfl (by decide) h69 ?_
  obtain ⟨h71, hf⟩ := grd hf
  obtain ⟨h72, hf⟩ := grd hf
  refine go_putr rfl rfl rfl h71 rfl h72 ?_
  refine go_n 2 (f := (160, [some (.ref x0), none], [.int 3624, .ref x0], (wr σ70 x0 15 (some (gz (wr σ66 x0 14 (some (gz (wr σ62 x0 13 (some (gz (wr σ58 x0 12 (some (gz (wr σ54 x0 11 (some (gz (wr σ50 x0 10 (some (gz (wr σ46 x0 9 (some (gz (wr σ42 x0 8 (some (gz (wr σ38 x0 7 (some (gz (wr σ34 x0 6 (some (gz (wr σ30 x0 5 (some (gz (wr σ26 x0 4 (some (gz (wr q21 x0 3 (some (gz (wr q15 x0 2 (some (gz (wr q9 x0 1 (some (gz (wr q3 x0 0 (some (gz σ)))))))))))))))))))))))))))))))))))))))))))))))))) rfl ?_
  obtain ⟨σ74, h73, hf⟩ := bnd hf
  refine go_newarr rfl rfl rfl (by decide) h73 ?_
  obtain ⟨h75, hf⟩ := grd hf
  obtain ⟨h76, hf⟩ := grd hf
  refine go_putr rfl rfl rfl h75 rfl h76 ?_
  refine go_n 2 (f := (169, [some (.ref x0), none], [.int 3624, .ref x0], (wr σ74 x0 16 (some (gz (wr σ70 x0 15 (some (gz (wr σ66 x0 14 (some (gz (wr σ62 x0 13 (some (gz (wr σ58 x0 12 (some (gz (wr σ54 x0 11 (some (gz (wr σ50 x0 10 (some (gz (wr σ46 x0 9 (some (gz (wr σ42 x0 8 (some (gz (wr σ38 x0 7 (some (gz (wr σ34 x0 6 (some (gz (wr σ30 x0 5 (some (gz (wr σ26 x0 4 (some (gz (wr q21 x0 3 (some (gz (wr q15 x0 2 (some (gz (wr q9 x0 1 (some (gz (wr q3 x0 0 (some (gz σ))))))))))))))))))))))))))))))))))))))))))))))))))))) rfl ?_
  obtain ⟨σ78, h77, hf⟩ := bnd hf
  refine go_newarr rfl rfl rfl (by decide) h77 ?_
  obtain ⟨h79, hf⟩ := grd hf
  obtain ⟨h80, hf⟩ := grd hf
  refine go_putr rfl rfl rfl h79 rfl h80 ?_
  refine go_n 2 (f := (176, [some (.ref x0), some (.int 0)], [], (wr σ78 x0 17 (some (gz (wr σ74 x0 16 (some (gz (wr σ70 x0 15 (some (gz (wr σ66 x0 14 (some (gz (wr σ62 x0 13 (some (gz (wr σ58 x0 12 (some (gz (wr σ54 x0 11 (some (gz (wr σ50 x0 10 (some (gz (wr σ46 x0 9 (some (gz (wr σ42 x0 8 (some (gz (wr σ38 x0 7 (some (gz (wr σ34 x0 6 (some (gz (wr σ30 x0 5 (some (gz (wr σ26 x0 4 (some (gz (wr q21 x0 3 (some (gz (wr q15 x0 2 (some (gz (wr q9 x0 1 (some (gz (wr q3 x0 0 (some (gz σ)))))))))))))))))))))))))))))))))))))))))))))))))))))))) rfl ?_
  exact fX1_init_L176_ok _   N0 _ _ _ hf
/-! OldWeather$Told.rows([I[I)V -/
def fX1_rows (x0 : Nat) (x1 : Nat) (σ : Sg) : Option Sg :=
  if 1 ≤ (kk σ x0) ∧ (kk σ x0) ≤ 6 then (am_cpy true σ x1 0 x0 0 (Int32.ofNat (kn σ x0))).bind fun q3 => some q3 else none
set_option maxHeartbeats 1500000 in
theorem fX1_rows_ok (x0 : Nat) (x1 : Nat) (σ : Sg) (r : Sg) (hf : fX1_rows x0 x1 σ = some r) : Cl true 0 5379 [.ref x0, .ref x1] σ (.inl none, r) := by
  refine ⟨iX1_rows, rfl, Nat.le_of_ble_eq_true rfl, Nat.le_of_ble_eq_true rfl, ?_⟩
  show Go true 0 iX1_rows (0, [some (.ref x0), some (.ref x1)], [], σ) (.inl none, r)
  unfold fX1_rows at hf
  refine go_n 5 (f := (5, [some (.ref x0), some (.ref x1)], [.ref x0, .int 0, .ref x0, .int 0, .ref x1], σ)) rfl ?_
  obtain ⟨h1, hf⟩ := grd hf
  refine go_alen rfl rfl h1 ?_
  obtain ⟨q3, h2, hf⟩ := bnd hf
  refine go_b (mid := 20001) (args := [.ref x1, .int 0, .ref x0, .int 0, .int (Int32.ofNat (kn σ x0))]) (pc := 9) (L := [some (.ref x0), some (.ref x1)]) (st := []) (σ := σ) rfl (by decide) (am_bi_cpy h2) ?_
  cases hf
  exact go_r rfl
/-! OldWeather$Gauge.kind()I -/
def fX10_kind (x0 : Nat) : Option Int32 :=
  some 1
set_option maxHeartbeats 1500000 in
theorem fX10_kind_ok (x0 : Nat) (σ : Sg) (r : Int32) (hf : fX10_kind x0 = some r) : Cl true 0 5633 [.ref x0] σ (.inl (some (.int r)), σ) := by
  refine ⟨iX10_kind, rfl, Nat.le_of_ble_eq_true rfl, Nat.le_of_ble_eq_true rfl, ?_⟩
  show Go true 0 iX10_kind (0, [some (.ref x0)], [], σ) (.inl (some (.int r)), σ)
  unfold fX10_kind at hf
  refine go_n 1 (f := (1, [some (.ref x0)], [.int 1], σ)) rfl ?_
  cases hf
  exact go_r rfl
/-! OldWeather$Proxy.kind()I -/
def fX12_kind (x0 : Nat) : Option Int32 :=
  some 3
set_option maxHeartbeats 1500000 in
theorem fX12_kind_ok (x0 : Nat) (σ : Sg) (r : Int32) (hf : fX12_kind x0 = some r) : Cl true 0 6145 [.ref x0] σ (.inl (some (.int r)), σ) := by
  refine ⟨iX12_kind, rfl, Nat.le_of_ble_eq_true rfl, Nat.le_of_ble_eq_true rfl, ?_⟩
  show Go true 0 iX12_kind (0, [some (.ref x0)], [], σ) (.inl (some (.int r)), σ)
  unfold fX12_kind at hf
  refine go_n 1 (f := (1, [some (.ref x0)], [.int 3], σ)) rfl ?_
  cases hf
  exact go_r rfl
/-! OldWeather$Copied.kind()I -/
def fX13_kind (x0 : Nat) : Option Int32 :=
  some 4
set_option maxHeartbeats 1500000 in
theorem fX13_kind_ok (x0 : Nat) (σ : Sg) (r : Int32) (hf : fX13_kind x0 = some r) : Cl true 0 6401 [.ref x0] σ (.inl (some (.int r)), σ) := by
  refine ⟨iX13_kind, rfl, Nat.le_of_ble_eq_true rfl, Nat.le_of_ble_eq_true rfl, ?_⟩
  show Go true 0 iX13_kind (0, [some (.ref x0)], [], σ) (.inl (some (.int r)), σ)
  unfold fX13_kind at hf
  refine go_n 1 (f := (1, [some (.ref x0)], [.int 4], σ)) rfl ?_
  cases hf
  exact go_r rfl
/-! OldWeather$Floats.<init>([BI)V -/
def fX14_init (x0 : Nat) (x1 : Nat) (x2 : Int32) (σ : Sg) : Option Sg :=
  if ¬ x2 < 0 then (am_new σ (3, (x2 : Int32).toNatClampNeg) (x2 : Int32).toNatClampNeg).bind fun σ2 => if [22].elem (kk σ2 x0) = true then if (stT true x0 0).isNone = true then if [22].elem (kk σ2 x0) = true then (am_cpy true (wr σ2 x0 0 (some (gz σ))) x1 0 (gz σ) 0 x2).bind fun q9 => some q9 else none else none else none else none
set_option maxHeartbeats 1500000 in
theorem fX14_init_ok (x0 : Nat) (x1 : Nat) (x2 : Int32) (σ : Sg) (r : Sg) (hf : fX14_init x0 x1 x2 σ = some r) : Cl true 0 6656 [.ref x0, .ref x1, .int x2] σ (.inl none, r) := by
  refine ⟨iX14_init, rfl, Nat.le_of_ble_eq_true rfl, Nat.le_of_ble_eq_true rfl, ?_⟩
  show Go true 0 iX14_init (0, [some (.ref x0), some (.ref x1), some (.int x2)], [], σ) (.inl none, r)
  unfold fX14_init at hf
  refine go_n 1 (f := (1, [some (.ref x0), some (.ref x1), some (.int x2)], [.ref x0], σ)) rfl ?_
  refine go_b (mid := 20000) (args := [.ref x0]) (pc := 4) (L := [some (.ref x0), some (.ref x1), some (.int x2)]) (st := []) (σ := σ) rfl (by decide) rfl ?_
  refine go_n 2 (f := (6, [some (.ref x0), some (.ref x1), some (.int x2)], [.int x2, .ref x0], σ)) rfl ?_
  obtain ⟨h3, hf⟩ := grd hf
  obtain ⟨σ2, h1, hf⟩ := bnd hf
  refine go_newarr rfl rfl rfl h3 h1 ?_
  obtain ⟨h4, hf⟩ := grd hf
  obtain ⟨h5, hf⟩ := grd hf
  refine go_putr rfl rfl rfl h4 rfl h5 ?_
  refine go_n 3 (f := (14, [some (.ref x0), some (.ref x1), some (.int x2)], [.ref x0, .int 0, .ref x1], (wr σ2 x0 0 (some (gz σ))))) rfl ?_
  obtain ⟨h7, hf⟩ := grd hf
  refine go_get rfl rfl rfl h7 ?_
  rw [show am_rf true (wr σ2 x0 0 (some (gz σ))) x0 0 2 = .ref (gz σ) from by simp [am_rf, grT, Option.isNone_iff_eq_none.mp h5, gr, wr, wi, wl, va_rf]]
  refine go_n 2 (f := (19, [some (.ref x0), some (.ref x1), some (.int x2)], [.int x2, .int 0, .ref (gz σ), .int 0, .ref x1], (wr σ2 x0 0 (some (gz σ))))) rfl ?_
  obtain ⟨q9, h8, hf⟩ := bnd hf
  refine go_b (mid := 20001) (args := [.ref x1, .int 0, .ref (gz σ), .int 0, .int x2]) (pc := 22) (L := [some (.ref x0), some (.ref x1), some (.int x2)]) (st := []) (σ := (wr σ2 x0 0 (some (gz σ)))) rfl (by decide) (am_bi_cpy h8) ?_
  cases hf
  exact go_r rfl
/-! OldWeather$Floats.isEnd()Z -/
def fX14_isEnd (x0 : Nat) (σ : Sg) : Option Int32 :=
  if [22].elem (kk σ x0) = true then if [22].elem (kk σ x0) = true then (match (rf σ x0 0) with
  | some a2 => if 1 ≤ (kk σ a2) ∧ (kk σ a2) ≤ 6 then ((fun (z7 : Int32) => some z7) ((if (gi σ x0 1) ≠ (Int32.ofNat (kn σ a2)) then 0 else 1) : Int32)) else none
  | none => none) else none else none
set_option maxHeartbeats 1500000 in
theorem fX14_isEnd_ok (x0 : Nat) (σ : Sg) (r : Int32) (hf : fX14_isEnd x0 σ = some r) : Cl true 0 6657 [.ref x0] σ (.inl (some (.int r)), σ) := by
  refine ⟨iX14_isEnd, rfl, Nat.le_of_ble_eq_true rfl, Nat.le_of_ble_eq_true rfl, ?_⟩
  show Go true 0 iX14_isEnd (0, [some (.ref x0)], [], σ) (.inl (some (.int r)), σ)
  unfold fX14_isEnd at hf
  refine go_n 1 (f := (1, [some (.ref x0)], [.ref x0], σ)) rfl ?_
  obtain ⟨h1, hf⟩ := grd hf
  refine go_get rfl rfl rfl h1 ?_
  refine go_n 1 (f := (5, [some (.ref x0)], [.ref x0, .int (gi σ x0 1)], σ)) rfl ?_
  obtain ⟨h3, hf⟩ := grd hf
  refine go_get rfl rfl rfl h3 ?_
  show Go true 0 iX14_isEnd (8, [some (.ref x0)], va_rf (rf σ x0 0) :: [.int (gi σ x0 1)], σ) _
  generalize hR4 : (rf σ x0 0) = h9 at hf ⊢
  cases h9 with
  | none =>
    cases hf
  | some a2 =>
    obtain ⟨h5, hf⟩ := grd hf
    refine go_alen rfl rfl h5 ?_
    refine go_m (f := (17, [none], [.int ((if (gi σ x0 1) ≠ (Int32.ofNat (kn σ a2)) then 0 else 1) : Int32)], σ)) ?_ (fun hJ8 => ?_)
    · generalize hz7 : ((if (gi σ x0 1) ≠ (Int32.ofNat (kn σ a2)) then 0 else 1) : Int32) = z7 at hf ⊢
      have oz7 : am_ok 3 z7 = true := hz7 ▸ (okb rfl rfl)
      try dsimp only at hf
      cases hf
      exact go_ret rfl rfl (Or.inr (Or.inl ⟨rfl, oz7⟩))
    · by_cases h6 : (gi σ x0 1) ≠ (Int32.ofNat (kn σ a2))
      · refine go_it (t := 16) (f := 12) (L1 := [some (.ref x0)]) (st1 := []) (σ1 := σ) rfl h6 ?_
        refine go_n 1 (f := (17, [some (.ref x0)], [.int 0], σ)) rfl ?_
        refine go_e (L1 := [none]) rfl rfl ?_
        simp only [if_pos h6] at hJ8
        first | exact hJ8 | (simp only [if_pos h6]; exact hJ8)
      · refine go_if (t := 16) (f := 12) (L1 := [some (.ref x0)]) (st1 := []) (σ1 := σ) rfl h6 ?_
        refine go_n 2 (f := (17, [some (.ref x0)], [.int 1], σ)) rfl ?_
        refine go_e (L1 := [none]) rfl rfl ?_
        simp only [if_neg h6] at hJ8
        first | exact hJ8 | (simp only [if_neg h6]; exact hJ8)
/-! OldWeather$Floats.next()F -/
def fX14_next_L4 (x0 : Nat) (σ : Sg)  (rec4 : (Int32 × Int32) → Option ((UInt32 ⊕ (Nat × Nat)) × Sg)) (s : Int32 × Int32) : Option ((UInt32 ⊕ (Nat × Nat)) × Sg) :=
  match s with
  | (x1, x2) => if 4 ≤ x2 then if [22].elem (kk σ x0) = true then if [22].elem (kk σ x0) = true then if (x1 &&& 2147483647) ≤ 2139095040 then if x1.toUInt32 &&& 0x7fffffff ≤ 0x7f800000 then some (.inl x1.toUInt32, (wi σ x0 1 ((gi σ x0 1) + 4))) else none else some (.inl 2143289344, (wi σ x0 1 ((gi σ x0 1) + 4))) else none else none else if [22].elem (kk σ x0) = true then (match (rf σ x0 0) with
  | some a7 => if [22].elem (kk σ x0) = true then if (kk σ a7) = 3 then if inb ((gi σ x0 1) + x2) (kn σ a7) then rec4 (((x1 <<< 8) ||| ((gi σ a7 ((gi σ x0 1) + x2).toNatClampNeg) &&& 255)), (x2 + 1)) else if (kn σ a7) ≤ 1000000 then some (.inr (3, 0), σ) else none else none else none
  | none => none) else none
set_option maxHeartbeats 1500000 in
theorem fX14_next_L4_ok (x0 : Nat) (σ : Sg)   : ∀ (n : Nat) (x1 : Int32) (x2 : Int32) (r : ((UInt32 ⊕ (Nat × Nat)) × Sg)), lp (fX14_next_L4 x0 σ ) n (x1, x2) = some r → Go true 0 iX14_next (4, [some (.ref x0), some (.int x1), some (.int x2)], [], σ) (am_outF r) := by
  intro n
  induction n with
  | zero => intro x1 x2 r hf; cases hf
  | succ n ih =>
    intro x1 x2 r hf
    have hf : fX14_next_L4 x0 σ  (lp (fX14_next_L4 x0 σ ) n) (x1, x2) = some r := hf
    have hrec4 := ih
    generalize lp (fX14_next_L4 x0 σ ) n = rec4 at hf hrec4
    unfold fX14_next_L4 at hf
    dsimp only at hf
    refine go_n 2 (f := (6, [some (.ref x0), some (.int x1), some (.int x2)], [.int 4, .int x2], σ)) rfl ?_
    by_cases h1 : 4 ≤ x2
    · rw [if_pos h1] at hf
      refine go_it (t := 36) (f := 9) (L1 := [some (.ref x0), some (.int x1), some (.int x2)]) (st1 := []) (σ1 := σ) rfl h1 ?_
      refine go_n 2 (f := (38, [some (.ref x0), some (.int x1), some (.int x2)], [.ref x0, .ref x0], σ)) rfl ?_
      obtain ⟨h2, hf⟩ := grd hf
      refine go_get rfl rfl rfl h2 ?_
      refine go_n 2 (f := (43, [some (.ref x0), some (.int x1), some (.int x2)], [.int ((gi σ x0 1) + 4), .ref x0], σ)) rfl ?_
      obtain ⟨h3, hf⟩ := grd hf
      refine go_puti rfl rfl rfl h3 rfl rfl rfl ?_
      refine go_n 4 (f := (52, [some (.ref x0), some (.int x1), some (.int x2)], [.int 2139095040, .int (x1 &&& 2147483647)], (wi σ x0 1 ((gi σ x0 1) + 4)))) rfl ?_
      by_cases h4 : (x1 &&& 2147483647) ≤ 2139095040
      · rw [if_pos h4] at hf
        refine go_it (t := 60) (f := 55) (L1 := [some (.ref x0), some (.int x1), some (.int x2)]) (st1 := []) (σ1 := (wi σ x0 1 ((gi σ x0 1) + 4))) rfl h4 ?_
        refine go_n 1 (f := (61, [some (.ref x0), some (.int x1), some (.int x2)], [.int x1], (wi σ x0 1 ((gi σ x0 1) + 4)))) rfl ?_
        obtain ⟨h5, hf⟩ := grd hf
        refine go_b (mid := 20003) (args := [.int x1]) (pc := 64) (L := [some (.ref x0), some (.int x1), some (.int x2)]) (st := []) (σ := (wi σ x0 1 ((gi σ x0 1) + 4))) rfl (by decide) (am_bi_flt h5) ?_
        refine go_e (L1 := [none, none, none]) rfl rfl ?_
        cases hf
        exact go_r rfl
      · rw [if_neg h4] at hf
        refine go_if (t := 60) (f := 55) (L1 := [some (.ref x0), some (.int x1), some (.int x2)]) (st1 := []) (σ1 := (wi σ x0 1 ((gi σ x0 1) + 4))) rfl h4 ?_
        refine go_n 2 (f := (64, [some (.ref x0), some (.int x1), some (.int x2)], [.float 2143289344], (wi σ x0 1 ((gi σ x0 1) + 4)))) rfl ?_
        refine go_e (L1 := [none, none, none]) rfl rfl ?_
        cases hf
        exact go_r rfl
    · rw [if_neg h1] at hf
      refine go_if (t := 36) (f := 9) (L1 := [some (.ref x0), some (.int x1), some (.int x2)]) (st1 := []) (σ1 := σ) rfl h1 ?_
      refine go_n 4 (f := (14, [some (.ref x0), some (.int x1), some (.int x2)], [.ref x0, .int (x1 <<< 8)], σ)) rfl ?_
      obtain ⟨h8, hf⟩ := grd hf
      refine go_get rfl rfl rfl h8 ?_
      show Go true 0 iX14_next (17, [some (.ref x0), some (.int x1), some (.int x2)], va_rf (rf σ x0 0) :: [.int (x1 <<< 8)], σ) _
      generalize hR9 : (rf σ x0 0) = h14 at hf ⊢
      cases h14 with
      | none =>
        cases hf
      | some a7 =>
        refine go_n 1 (f := (18, [some (.ref x0), some (.int x1), some (.int x2)], [.ref x0, .ref a7, .int (x1 <<< 8)], σ)) rfl ?_
        obtain ⟨h10, hf⟩ := grd hf
        refine go_get rfl rfl rfl h10 ?_
        refine go_n 2 (f := (23, [some (.ref x0), some (.int x1), some (.int x2)], [.int ((gi σ x0 1) + x2), .ref a7, .int (x1 <<< 8)], σ)) rfl ?_
        obtain ⟨h11, hf⟩ := grd hf
        by_cases h12 : inb ((gi σ x0 1) + x2) (kn σ a7)
        · rw [if_pos h12] at hf
          refine go_bald rfl rfl (Or.inl h11) h12 ?_
          refine go_n 5 (f := (33, [some (.ref x0), some (.int ((x1 <<< 8) ||| ((gi σ a7 ((gi σ x0 1) + x2).toNatClampNeg) &&& 255))), some (.int (x2 + 1))], [], σ)) rfl ?_
          refine go_n 1 (f := (4, [some (.ref x0), some (.int ((x1 <<< 8) ||| ((gi σ a7 ((gi σ x0 1) + x2).toNatClampNeg) &&& 255))), some (.int (x2 + 1))], [], σ)) rfl ?_
          exact hrec4 _ _ _ hf
        · rw [if_neg h12] at hf
          obtain ⟨h13, hf⟩ := grd hf
          cases hf
          exact go_baldx rfl rfl h11 h12 h13 (Nat.le_of_ble_eq_true rfl) rfl rfl
def fX14_next (x0 : Nat) (σ : Sg) : Option ((UInt32 ⊕ (Nat × Nat)) × Sg) :=
  lp (fX14_next_L4 x0 σ ) N0 (0, 0)
set_option maxHeartbeats 1500000 in
theorem fX14_next_ok (x0 : Nat) (σ : Sg) (r : ((UInt32 ⊕ (Nat × Nat)) × Sg)) (hf : fX14_next x0 σ = some r) : Cl true 0 6658 [.ref x0] σ (am_outF r) := by
  refine ⟨iX14_next, rfl, Nat.le_of_ble_eq_true rfl, Nat.le_of_ble_eq_true rfl, ?_⟩
  show Go true 0 iX14_next (0, [some (.ref x0), none, none], [], σ) (am_outF r)
  unfold fX14_next at hf
  refine go_n 4 (f := (4, [some (.ref x0), some (.int 0), some (.int 0)], [], σ)) rfl ?_
  exact fX14_next_L4_ok _ _   N0 _ _ _ hf
/-! OldWeather$Reader.<init>([BI)V -/
def fX15_init (x0 : Nat) (x1 : Nat) (x2 : Int32) (σ : Sg) : Option Sg :=
  (am_new σ (16, 0) 3).bind fun σ2 => (fJ2_init (gz σ) 2 σ2).bind fun q3 => if [23].elem (kk q3 x0) = true then if (stT true x0 2).isNone = true then if [23].elem (kk q3 x0) = true then if (stT true x0 0).isNone = true then if [23].elem (kk q3 x0) = true then some (wi (wr (wr q3 x0 2 (some (gz σ))) x0 0 (some x1)) x0 1 x2) else none else none else none else none else none
set_option maxHeartbeats 1500000 in
theorem fX15_init_ok (x0 : Nat) (x1 : Nat) (x2 : Int32) (σ : Sg) (r : Sg) (hf : fX15_init x0 x1 x2 σ = some r) : Cl true 3 6912 [.ref x0, .ref x1, .int x2] σ (.inl none, r) := by
  refine ⟨iX15_init, rfl, Nat.le_of_ble_eq_true rfl, Nat.le_of_ble_eq_true rfl, ?_⟩
  show Go true 3 iX15_init (0, [some (.ref x0), some (.ref x1), some (.int x2)], [], σ) (.inl none, r)
  unfold fX15_init at hf
  refine go_n 1 (f := (1, [some (.ref x0), some (.ref x1), some (.int x2)], [.ref x0], σ)) rfl ?_
  refine go_b (mid := 20000) (args := [.ref x0]) (pc := 4) (L := [some (.ref x0), some (.ref x1), some (.int x2)]) (st := []) (σ := σ) rfl (by decide) rfl ?_
  refine go_n 1 (f := (5, [some (.ref x0), some (.ref x1), some (.int x2)], [.ref x0], σ)) rfl ?_
  obtain ⟨σ2, h1, hf⟩ := bnd hf
  refine go_new rfl rfl rfl h1 ?_
  refine go_n 2 (f := (10, [some (.ref x0), some (.ref x1), some (.int x2)], [.int 2, .ref (gz σ), .ref (gz σ), .ref x0], σ2)) rfl ?_
  obtain ⟨q3, h4, hf⟩ := bnd hf
  refine go_c (mid := 2816) (args := [.ref (gz σ), .int 2]) (pc := 13) (L := [some (.ref x0), some (.ref x1), some (.int x2)]) (st := [.ref (gz σ), .ref x0]) (σ := σ2) rfl ((fJ2_init_ok _ _ _ q3 h4).deep (Nat.le_of_ble_eq_true rfl)) ?_
  obtain ⟨h5, hf⟩ := grd hf
  obtain ⟨h6, hf⟩ := grd hf
  refine go_putr rfl rfl rfl h5 rfl h6 ?_
  refine go_n 2 (f := (18, [some (.ref x0), some (.ref x1), some (.int x2)], [.ref x1, .ref x0], (wr q3 x0 2 (some (gz σ))))) rfl ?_
  obtain ⟨h7, hf⟩ := grd hf
  obtain ⟨h8, hf⟩ := grd hf
  refine go_putr rfl rfl rfl h7 rfl h8 ?_
  refine go_n 2 (f := (23, [some (.ref x0), some (.ref x1), some (.int x2)], [.int x2, .ref x0], (wr (wr q3 x0 2 (some (gz σ))) x0 0 (some x1)))) rfl ?_
  obtain ⟨h9, hf⟩ := grd hf
  refine go_puti rfl rfl rfl h9 rfl rfl rfl ?_
  cases hf
  exact go_r rfl
/-! OldWeather$Reader.isIn(III)Z -/
def fX15_isIn (x0 : Nat) (x1 : Int32) (x2 : Int32) (x3 : Int32) (σ : Sg) : Option Int32 :=
  if [23].elem (kk σ x0) = true then if (gi σ x0 1) ≤ x1 then some 0 else if [23].elem (kk σ x0) = true then (match (rf σ x0 0) with
  | some a3 => if (kk σ a3) = 3 then if inb x1 (kn σ a3) then if (gi σ a3 x1.toNatClampNeg) < x2 then some 0 else if [23].elem (kk σ x0) = true then if (kk σ a3) = 3 then if inb x1 (kn σ a3) then ((fun (z14 : Int32) => some z14) ((if x3 < (gi σ a3 x1.toNatClampNeg) then 0 else 1) : Int32)) else none else none else none else none else none
  | none => none) else none else none
set_option maxHeartbeats 1500000 in
theorem fX15_isIn_ok (x0 : Nat) (x1 : Int32) (x2 : Int32) (x3 : Int32) (σ : Sg) (r : Int32) (hf : fX15_isIn x0 x1 x2 x3 σ = some r) : Cl true 0 6915 [.ref x0, .int x1, .int x2, .int x3] σ (.inl (some (.int r)), σ) := by
  refine ⟨iX15_isIn, rfl, Nat.le_of_ble_eq_true rfl, Nat.le_of_ble_eq_true rfl, ?_⟩
  show Go true 0 iX15_isIn (0, [some (.ref x0), some (.int x1), some (.int x2), some (.int x3)], [], σ) (.inl (some (.int r)), σ)
  unfold fX15_isIn at hf
  refine go_n 2 (f := (2, [some (.ref x0), some (.int x1), some (.int x2), some (.int x3)], [.ref x0, .int x1], σ)) rfl ?_
  obtain ⟨h1, hf⟩ := grd hf
  refine go_get rfl rfl rfl h1 ?_
  by_cases h2 : (gi σ x0 1) ≤ x1
  · rw [if_pos h2] at hf
    refine go_it (t := 32) (f := 8) (L1 := [some (.ref x0), some (.int x1), some (.int x2), some (.int x3)]) (st1 := []) (σ1 := σ) rfl h2 ?_
    refine go_e (L1 := [none, none, none, none]) rfl rfl ?_
    refine go_n 1 (f := (33, [none, none, none, none], [.int 0], σ)) rfl ?_
    cases hf
    exact go_r rfl
  · rw [if_neg h2] at hf
    refine go_if (t := 32) (f := 8) (L1 := [some (.ref x0), some (.int x1), some (.int x2), some (.int x3)]) (st1 := []) (σ1 := σ) rfl h2 ?_
    refine go_n 1 (f := (9, [some (.ref x0), some (.int x1), some (.int x2), some (.int x3)], [.ref x0], σ)) rfl ?_
    obtain ⟨h4, hf⟩ := grd hf
    refine go_get rfl rfl rfl h4 ?_
    show Go true 0 iX15_isIn (12, [some (.ref x0), some (.int x1), some (.int x2), some (.int x3)], va_rf (rf σ x0 0) :: [], σ) _
    generalize hR5 : (rf σ x0 0) = h16 at hf ⊢
    cases h16 with
    | none =>
      cases hf
    | some a3 =>
      refine go_n 1 (f := (13, [some (.ref x0), some (.int x1), some (.int x2), some (.int x3)], [.int x1, .ref a3], σ)) rfl ?_
      obtain ⟨h6, hf⟩ := grd hf
      obtain ⟨h7, hf⟩ := grd hf
      refine go_bald rfl rfl (Or.inl h6) h7 ?_
      refine go_n 1 (f := (15, [some (.ref x0), some (.int x1), some (.int x2), some (.int x3)], [.int x2, .int (gi σ a3 x1.toNatClampNeg)], σ)) rfl ?_
      by_cases h8 : (gi σ a3 x1.toNatClampNeg) < x2
      · rw [if_pos h8] at hf
        refine go_it (t := 32) (f := 18) (L1 := [some (.ref x0), some (.int x1), some (.int x2), some (.int x3)]) (st1 := []) (σ1 := σ) rfl h8 ?_
        refine go_e (L1 := [none, none, none, none]) rfl rfl ?_
        refine go_n 1 (f := (33, [none, none, none, none], [.int 0], σ)) rfl ?_
        cases hf
        exact go_r rfl
      · rw [if_neg h8] at hf
        refine go_if (t := 32) (f := 18) (L1 := [some (.ref x0), some (.int x1), some (.int x2), some (.int x3)]) (st1 := []) (σ1 := σ) rfl h8 ?_
        refine go_n 1 (f := (19, [some (.ref x0), some (.int x1), some (.int x2), some (.int x3)], [.ref x0], σ)) rfl ?_
        obtain ⟨h10, hf⟩ := grd hf
        refine go_get rfl rfl rfl h10 ?_
        rw [show am_rf true σ x0 0 2 = .ref a3 from (show am_rf true σ x0 0 2 = va_rf (rf σ x0 0) from rfl).trans (by rw [hR5]; rfl)]
        refine go_n 1 (f := (23, [some (.ref x0), some (.int x1), some (.int x2), some (.int x3)], [.int x1, .ref a3], σ)) rfl ?_
        obtain ⟨h11, hf⟩ := grd hf
        obtain ⟨h12, hf⟩ := grd hf
        refine go_bald rfl rfl (Or.inl h11) h12 ?_
        refine go_n 1 (f := (25, [some (.ref x0), some (.int x1), some (.int x2), some (.int x3)], [.int x3, .int (gi σ a3 x1.toNatClampNeg)], σ)) rfl ?_
        refine go_m (f := (33, [none, none, none, none], [.int ((if x3 < (gi σ a3 x1.toNatClampNeg) then 0 else 1) : Int32)], σ)) ?_ (fun hJ15 => ?_)
        · generalize hz14 : ((if x3 < (gi σ a3 x1.toNatClampNeg) then 0 else 1) : Int32) = z14 at hf ⊢
          have oz14 : am_ok 3 z14 = true := hz14 ▸ (okb rfl rfl)
          try dsimp only at hf
          cases hf
          exact go_ret rfl rfl (Or.inr (Or.inl ⟨rfl, oz14⟩))
        · by_cases h13 : x3 < (gi σ a3 x1.toNatClampNeg)
          · refine go_it (t := 32) (f := 28) (L1 := [some (.ref x0), some (.int x1), some (.int x2), some (.int x3)]) (st1 := []) (σ1 := σ) rfl h13 ?_
            refine go_e (L1 := [none, none, none, none]) rfl rfl ?_
            refine go_n 1 (f := (33, [none, none, none, none], [.int 0], σ)) rfl ?_
            refine go_e (L1 := [none, none, none, none]) rfl rfl ?_
            simp only [if_pos h13] at hJ15
            first | exact hJ15 | (simp only [if_pos h13]; exact hJ15)
          · refine go_if (t := 32) (f := 28) (L1 := [some (.ref x0), some (.int x1), some (.int x2), some (.int x3)]) (st1 := []) (σ1 := σ) rfl h13 ?_
            refine go_n 2 (f := (33, [some (.ref x0), some (.int x1), some (.int x2), some (.int x3)], [.int 1], σ)) rfl ?_
            refine go_e (L1 := [none, none, none, none]) rfl rfl ?_
            simp only [if_neg h13] at hJ15
            first | exact hJ15 | (simp only [if_neg h13]; exact hJ15)
/-! OldWeather$Reader.is(Ljava/lang/String;)Z -/
def fX15_is_L20 (x0 : Nat) (x1 : Nat) (σ : Sg)  (rec20 : Int32 → Option Int32) (x2 : Int32) : Option Int32 :=
  (am_sln x1).bind fun q7 => if q7 ≤ x2 then some 1 else if [23].elem (kk σ x0) = true then (match (rf σ x0 0) with
  | some a9 => if [23].elem (kk σ x0) = true then if (kk σ a9) = 3 then if inb ((gi σ x0 3) + x2) (kn σ a9) then (am_sat x1 x2).bind fun q16 => if (gi σ a9 ((gi σ x0 3) + x2).toNatClampNeg) = q16 then rec20 (x2 + 1) else some 0 else none else none else none
  | none => none) else none
set_option maxHeartbeats 1500000 in
theorem fX15_is_L20_ok (x0 : Nat) (x1 : Nat) (σ : Sg)   : ∀ (n : Nat) (x2 : Int32) (r : Int32), lp (fX15_is_L20 x0 x1 σ ) n x2 = some r → Go true 0 iX15_is (20, [some (.ref x0), some (.ref x1), some (.int x2)], [], σ) (.inl (some (.int r)), σ) := by
  intro n
  induction n with
  | zero => intro x2 r hf; cases hf
  | succ n ih =>
    intro x2 r hf
    have hf : fX15_is_L20 x0 x1 σ  (lp (fX15_is_L20 x0 x1 σ ) n) x2 = some r := hf
    have hrec20 := ih
    generalize lp (fX15_is_L20 x0 x1 σ ) n = rec20 at hf hrec20
    unfold fX15_is_L20 at hf
    refine go_n 2 (f := (22, [some (.ref x0), some (.ref x1), some (.int x2)], [.ref x1, .int x2], σ)) rfl ?_
    obtain ⟨q7, h6, hf⟩ := bnd hf
    refine go_b (mid := 20004) (args := [.ref x1]) (pc := 25) (L := [some (.ref x0), some (.ref x1), some (.int x2)]) (st := [.int x2]) (σ := σ) rfl (by decide) (am_bi_sln h6) ?_
    by_cases h8 : q7 ≤ x2
    · rw [if_pos h8] at hf
      refine go_it (t := 55) (f := 28) (L1 := [some (.ref x0), some (.ref x1), some (.int x2)]) (st1 := []) (σ1 := σ) rfl h8 ?_
      refine go_n 1 (f := (56, [some (.ref x0), some (.ref x1), some (.int x2)], [.int 1], σ)) rfl ?_
      cases hf
      exact go_r rfl
    · rw [if_neg h8] at hf
      refine go_if (t := 55) (f := 28) (L1 := [some (.ref x0), some (.ref x1), some (.int x2)]) (st1 := []) (σ1 := σ) rfl h8 ?_
      refine go_n 1 (f := (29, [some (.ref x0), some (.ref x1), some (.int x2)], [.ref x0], σ)) rfl ?_
      obtain ⟨h10, hf⟩ := grd hf
      refine go_get rfl rfl rfl h10 ?_
      show Go true 0 iX15_is (32, [some (.ref x0), some (.ref x1), some (.int x2)], va_rf (rf σ x0 0) :: [], σ) _
      generalize hR11 : (rf σ x0 0) = h18 at hf ⊢
      cases h18 with
      | none =>
        cases hf
      | some a9 =>
        refine go_n 1 (f := (33, [some (.ref x0), some (.ref x1), some (.int x2)], [.ref x0, .ref a9], σ)) rfl ?_
        obtain ⟨h12, hf⟩ := grd hf
        refine go_get rfl rfl rfl h12 ?_
        refine go_n 2 (f := (38, [some (.ref x0), some (.ref x1), some (.int x2)], [.int ((gi σ x0 3) + x2), .ref a9], σ)) rfl ?_
        obtain ⟨h13, hf⟩ := grd hf
        obtain ⟨h14, hf⟩ := grd hf
        refine go_bald rfl rfl (Or.inl h13) h14 ?_
        refine go_n 2 (f := (41, [some (.ref x0), some (.ref x1), some (.int x2)], [.int x2, .ref x1, .int (gi σ a9 ((gi σ x0 3) + x2).toNatClampNeg)], σ)) rfl ?_
        obtain ⟨q16, h15, hf⟩ := bnd hf
        refine go_b (mid := 20005) (args := [.ref x1, .int x2]) (pc := 44) (L := [some (.ref x0), some (.ref x1), some (.int x2)]) (st := [.int (gi σ a9 ((gi σ x0 3) + x2).toNatClampNeg)]) (σ := σ) rfl (by decide) (am_bi_sat h15) ?_
        by_cases h17 : (gi σ a9 ((gi σ x0 3) + x2).toNatClampNeg) = q16
        · rw [if_pos h17] at hf
          refine go_it (t := 49) (f := 47) (L1 := [some (.ref x0), some (.ref x1), some (.int x2)]) (st1 := []) (σ1 := σ) rfl h17 ?_
          refine go_n 2 (f := (20, [some (.ref x0), some (.ref x1), some (.int (x2 + 1))], [], σ)) rfl ?_
          exact hrec20 _ _ hf
        · rw [if_neg h17] at hf
          refine go_if (t := 49) (f := 47) (L1 := [some (.ref x0), some (.ref x1), some (.int x2)]) (st1 := []) (σ1 := σ) rfl h17 ?_
          refine go_n 1 (f := (48, [some (.ref x0), some (.ref x1), some (.int x2)], [.int 0], σ)) rfl ?_
          cases hf
          exact go_r rfl
def fX15_is (x0 : Nat) (x1 : Nat) (σ : Sg) : Option Int32 :=
  if [23].elem (kk σ x0) = true then if [23].elem (kk σ x0) = true then (am_sln x1).bind fun q4 => if ((gi σ x0 4) - (gi σ x0 3)) = q4 then lp (fX15_is_L20 x0 x1 σ ) N0 0 else some 0 else none else none
set_option maxHeartbeats 1500000 in
theorem fX15_is_ok (x0 : Nat) (x1 : Nat) (σ : Sg) (r : Int32) (hf : fX15_is x0 x1 σ = some r) : Cl true 0 6918 [.ref x0, .ref x1] σ (.inl (some (.int r)), σ) := by
  refine ⟨iX15_is, rfl, Nat.le_of_ble_eq_true rfl, Nat.le_of_ble_eq_true rfl, ?_⟩
  show Go true 0 iX15_is (0, [some (.ref x0), some (.ref x1), none], [], σ) (.inl (some (.int r)), σ)
  unfold fX15_is at hf
  refine go_n 1 (f := (1, [some (.ref x0), some (.ref x1), none], [.ref x0], σ)) rfl ?_
  obtain ⟨h1, hf⟩ := grd hf
  refine go_get rfl rfl rfl h1 ?_
  refine go_n 1 (f := (5, [some (.ref x0), some (.ref x1), none], [.ref x0, .int (gi σ x0 4)], σ)) rfl ?_
  obtain ⟨h2, hf⟩ := grd hf
  refine go_get rfl rfl rfl h2 ?_
  refine go_n 2 (f := (10, [some (.ref x0), some (.ref x1), none], [.ref x1, .int ((gi σ x0 4) - (gi σ x0 3))], σ)) rfl ?_
  obtain ⟨q4, h3, hf⟩ := bnd hf
  refine go_b (mid := 20004) (args := [.ref x1]) (pc := 13) (L := [some (.ref x0), some (.ref x1), none]) (st := [.int ((gi σ x0 4) - (gi σ x0 3))]) (σ := σ) rfl (by decide) (am_bi_sln h3) ?_
  by_cases h5 : ((gi σ x0 4) - (gi σ x0 3)) = q4
  · rw [if_pos h5] at hf
    refine go_it (t := 18) (f := 16) (L1 := [some (.ref x0), some (.ref x1), none]) (st1 := []) (σ1 := σ) rfl h5 ?_
    refine go_n 2 (f := (20, [some (.ref x0), some (.ref x1), some (.int 0)], [], σ)) rfl ?_
    exact fX15_is_L20_ok _ _ _   N0 _ _ hf
  · rw [if_neg h5] at hf
    refine go_if (t := 18) (f := 16) (L1 := [some (.ref x0), some (.ref x1), none]) (st1 := []) (σ1 := σ) rfl h5 ?_
    refine go_n 1 (f := (17, [some (.ref x0), some (.ref x1), none], [.int 0], σ)) rfl ?_
    cases hf
    exact go_r rfl
/-! OldWeather$Reader.field()I -/
def fX15_field (x0 : Nat) (σ : Sg) : Option Int32 :=
  if (kk σ x0) = 23 then (fX15_is x0 1000008 σ).bind fun q2 => if q2 = 0 then if (kk σ x0) = 23 then (fX15_is x0 1000009 σ).bind fun q6 => if q6 = 0 then if (kk σ x0) = 23 then (fX15_is x0 1000010 σ).bind fun q10 => if q10 = 0 then if (kk σ x0) = 23 then (fX15_is x0 1000011 σ).bind fun q14 => if q14 = 0 then if (kk σ x0) = 23 then (fX15_is x0 1000012 σ).bind fun q18 => if q18 = 0 then if (kk σ x0) = 23 then (fX15_is x0 1000013 σ).bind fun q22 => if q22 = 0 then if (kk σ x0) = 23 then (fX15_is x0 1000014 σ).bind fun q26 => ((fun (z29 : Int32) => some z29) ((if q26 = 0 then (-1) else 6) : Int32)) else none else some 5 else none else some 4 else none else some 3 else none else some 2 else none else some 1 else none else some 0 else none
set_option maxHeartbeats 1500000 in
theorem fX15_field_ok (x0 : Nat) (σ : Sg) (r : Int32) (hf : fX15_field x0 σ = some r) : Cl true 1 6927 [.ref x0] σ (.inl (some (.int r)), σ) := by
  refine ⟨iX15_field, rfl, Nat.le_of_ble_eq_true rfl, Nat.le_of_ble_eq_true rfl, ?_⟩
  show Go true 1 iX15_field (0, [some (.ref x0)], [], σ) (.inl (some (.int r)), σ)
  unfold fX15_field at hf
  refine go_n 2 (f := (3, [some (.ref x0)], [.ref 1000008, .ref x0], σ)) rfl ?_
  obtain ⟨h1, hf⟩ := grd hf
  obtain ⟨q2, h3, hf⟩ := bnd hf
  refine go_c (mid := 6918) (args := [.ref x0, .ref 1000008]) (pc := 6) (L := [some (.ref x0)]) (st := []) (σ := σ) (stp_callV1 (n := 2) rfl rfl rfl ⟨Nat.le_of_ble_eq_true rfl, Nat.le_of_ble_eq_true rfl⟩ rfl h1 rfl) ((fX15_is_ok _ _ _ q2 h3).deep (Nat.le_of_ble_eq_true rfl)) ?_
  by_cases h4 : q2 = 0
  · rw [if_pos h4] at hf
    refine go_it (t := 11) (f := 9) (L1 := [some (.ref x0)]) (st1 := []) (σ1 := σ) rfl h4 ?_
    refine go_n 2 (f := (14, [some (.ref x0)], [.ref 1000009, .ref x0], σ)) rfl ?_
    obtain ⟨h5, hf⟩ := grd hf
    obtain ⟨q6, h7, hf⟩ := bnd hf
    refine go_c (mid := 6918) (args := [.ref x0, .ref 1000009]) (pc := 17) (L := [some (.ref x0)]) (st := []) (σ := σ) (stp_callV1 (n := 2) rfl rfl rfl ⟨Nat.le_of_ble_eq_true rfl, Nat.le_of_ble_eq_true rfl⟩ rfl h5 rfl) ((fX15_is_ok _ _ _ q6 h7).deep (Nat.le_of_ble_eq_true rfl)) ?_
    by_cases h8 : q6 = 0
    · rw [if_pos h8] at hf
      refine go_it (t := 22) (f := 20) (L1 := [some (.ref x0)]) (st1 := []) (σ1 := σ) rfl h8 ?_
      refine go_n 2 (f := (25, [some (.ref x0)], [.ref 1000010, .ref x0], σ)) rfl ?_
      obtain ⟨h9, hf⟩ := grd hf
      obtain ⟨q10, h11, hf⟩ := bnd hf
      refine go_c (mid := 6918) (args := [.ref x0, .ref 1000010]) (pc := 28) (L := [some (.ref x0)]) (st := []) (σ := σ) (stp_callV1 (n := 2) rfl rfl rfl ⟨Nat.le_of_ble_eq_true rfl, Nat.le_of_ble_eq_true rfl⟩ rfl h9 rfl) ((fX15_is_ok _ _ _ q10 h11).deep (Nat.le_of_ble_eq_true rfl)) ?_
      by_cases h12 : q10 = 0
      · rw [if_pos h12] at hf
        refine go_it (t := 33) (f := 31) (L1 := [some (.ref x0)]) (st1 := []) (σ1 := σ) rfl h12 ?_
        refine go_n 2 (f := (36, [some (.ref x0)], [.ref 1000011, .ref x0], σ)) rfl ?_
        obtain ⟨h13, hf⟩ := grd hf
        obtain ⟨q14, h15, hf⟩ := bnd hf
        refine go_c (mid := 6918) (args := [.ref x0, .ref 1000011]) (pc := 39) (L := [some (.ref x0)]) (st := []) (σ := σ) (stp_callV1 (n := 2) rfl rfl rfl ⟨Nat.le_of_ble_eq_true rfl, Nat.le_of_ble_eq_true rfl⟩ rfl h13 rfl) ((fX15_is_ok _ _ _ q14 h15).deep (Nat.le_of_ble_eq_true rfl)) ?_
        by_cases h16 : q14 = 0
        · rw [if_pos h16] at hf
          refine go_it (t := 44) (f := 42) (L1 := [some (.ref x0)]) (st1 := []) (σ1 := σ) rfl h16 ?_
          refine go_n 2 (f := (47, [some (.ref x0)], [.ref 1000012, .ref x0], σ)) rfl ?_
          obtain ⟨h17, hf⟩ := grd hf
          obtain ⟨q18, h19, hf⟩ := bnd hf
          refine go_c (mid := 6918) (args := [.ref x0, .ref 1000012]) (pc := 50) (L := [some (.ref x0)]) (st := []) (σ := σ) (stp_callV1 (n := 2) rfl rfl rfl ⟨Nat.le_of_ble_eq_true rfl, Nat.le_of_ble_eq_true rfl⟩ rfl h17 rfl) ((fX15_is_ok _ _ _ q18 h19).deep (Nat.le_of_ble_eq_true rfl)) ?_
          by_cases h20 : q18 = 0
          · rw [if_pos h20] at hf
            refine go_it (t := 55) (f := 53) (L1 := [some (.ref x0)]) (st1 := []) (σ1 := σ) rfl h20 ?_
            refine go_n 2 (f := (58, [some (.ref x0)], [.ref 1000013, .ref x0], σ)) rfl ?_
            obtain ⟨h21, hf⟩ := grd hf
            obtain ⟨q22, h23, hf⟩ := bnd hf
            refine go_c (mid := 6918) (args := [.ref x0, .ref 1000013]) (pc := 61) (L := [some (.ref x0)]) (st := []) (σ := σ) (stp_callV1 (n := 2) rfl rfl rfl ⟨Nat.le_of_ble_eq_true rfl, Nat.le_of_ble_eq_true rfl⟩ rfl h21 rfl) ((fX15_is_ok _ _ _ q22 h23).deep (Nat.le_of_ble_eq_true rfl)) ?_
            by_cases h24 : q22 = 0
            · rw [if_pos h24] at hf
              refine go_it (t := 66) (f := 64) (L1 := [some (.ref x0)]) (st1 := []) (σ1 := σ) rfl h24 ?_
              refine go_n 2 (f := (69, [some (.ref x0)], [.ref 1000014, .ref x0], σ)) rfl ?_
              obtain ⟨h25, hf⟩ := grd hf
              obtain ⟨q26, h27, hf⟩ := bnd hf
              refine go_c (mid := 6918) (args := [.ref x0, .ref 1000014]) (pc := 72) (L := [some (.ref x0)]) (st := []) (σ := σ) (stp_callV1 (n := 2) rfl rfl rfl ⟨Nat.le_of_ble_eq_true rfl, Nat.le_of_ble_eq_true rfl⟩ rfl h25 rfl) ((fX15_is_ok _ _ _ q26 h27).deep (Nat.le_of_ble_eq_true rfl)) ?_
              refine go_m (f := (81, [none], [.int ((if q26 = 0 then (-1) else 6) : Int32)], σ)) ?_ (fun hJ30 => ?_)
              · generalize hz29 : ((if q26 = 0 then (-1) else 6) : Int32) = z29 at hf ⊢
                try dsimp only at hf
                cases hf
                exact go_r rfl
              · by_cases h28 : q26 = 0
                · refine go_it (t := 80) (f := 75) (L1 := [some (.ref x0)]) (st1 := []) (σ1 := σ) rfl h28 ?_
                  refine go_n 1 (f := (81, [some (.ref x0)], [.int (-1)], σ)) rfl ?_
                  refine go_e (L1 := [none]) rfl rfl ?_
                  simp only [if_pos h28] at hJ30
                  first | exact hJ30 | (simp only [if_pos h28]; exact hJ30)
                · refine go_if (t := 80) (f := 75) (L1 := [some (.ref x0)]) (st1 := []) (σ1 := σ) rfl h28 ?_
                  refine go_n 2 (f := (81, [some (.ref x0)], [.int 6], σ)) rfl ?_
                  refine go_e (L1 := [none]) rfl rfl ?_
                  simp only [if_neg h28] at hJ30
                  first | exact hJ30 | (simp only [if_neg h28]; exact hJ30)
            · rw [if_neg h24] at hf
              refine go_if (t := 66) (f := 64) (L1 := [some (.ref x0)]) (st1 := []) (σ1 := σ) rfl h24 ?_
              refine go_n 1 (f := (65, [some (.ref x0)], [.int 5], σ)) rfl ?_
              cases hf
              exact go_r rfl
          · rw [if_neg h20] at hf
            refine go_if (t := 55) (f := 53) (L1 := [some (.ref x0)]) (st1 := []) (σ1 := σ) rfl h20 ?_
            refine go_n 1 (f := (54, [some (.ref x0)], [.int 4], σ)) rfl ?_
            cases hf
            exact go_r rfl
        · rw [if_neg h16] at hf
          refine go_if (t := 44) (f := 42) (L1 := [some (.ref x0)]) (st1 := []) (σ1 := σ) rfl h16 ?_
          refine go_n 1 (f := (43, [some (.ref x0)], [.int 3], σ)) rfl ?_
          cases hf
          exact go_r rfl
      · rw [if_neg h12] at hf
        refine go_if (t := 33) (f := 31) (L1 := [some (.ref x0)]) (st1 := []) (σ1 := σ) rfl h12 ?_
        refine go_n 1 (f := (32, [some (.ref x0)], [.int 2], σ)) rfl ?_
        cases hf
        exact go_r rfl
    · rw [if_neg h8] at hf
      refine go_if (t := 22) (f := 20) (L1 := [some (.ref x0)]) (st1 := []) (σ1 := σ) rfl h8 ?_
      refine go_n 1 (f := (21, [some (.ref x0)], [.int 1], σ)) rfl ?_
      cases hf
      exact go_r rfl
  · rw [if_neg h4] at hf
    refine go_if (t := 11) (f := 9) (L1 := [some (.ref x0)]) (st1 := []) (σ1 := σ) rfl h4 ?_
    refine go_n 1 (f := (10, [some (.ref x0)], [.int 0], σ)) rfl ?_
    cases hf
    exact go_r rfl
/-! OldWeather$Fault.<init>(I)V -/
def fX16_init (x0 : Nat) (x1 : Int32) (σ : Sg) : Option Sg :=
  if (kk σ x0) = 24 ∨ (kk σ x0) = 25 then if [24].elem (kk σ x0) = true then some (wi (wr (wr (wr (wr σ x0 0 none) x0 1 none) x0 2 none) x0 3 none) x0 6 x1) else none else none
set_option maxHeartbeats 1500000 in
theorem fX16_init_ok (x0 : Nat) (x1 : Int32) (σ : Sg) (r : Sg) (hf : fX16_init x0 x1 σ = some r) : Cl true 0 7168 [.ref x0, .int x1] σ (.inl none, r) := by
  refine ⟨iX16_init, rfl, Nat.le_of_ble_eq_true rfl, Nat.le_of_ble_eq_true rfl, ?_⟩
  show Go true 0 iX16_init (0, [some (.ref x0), some (.int x1)], [], σ) (.inl none, r)
  unfold fX16_init at hf
  refine go_n 5 (f := (5, [some (.ref x0), some (.int x1)], [.int 0, .int 0, .null, .null, .ref x0], σ)) rfl ?_
  obtain ⟨h1, hf⟩ := grd hf
  refine go_b (mid := 20006) (args := [.ref x0, .null, .null, .int 0, .int 0]) (pc := 8) (L := [some (.ref x0), some (.int x1)]) (st := []) (σ := σ) rfl (by decide) (am_bi_exc h1) ?_
  refine go_n 2 (f := (10, [some (.ref x0), some (.int x1)], [.int x1, .ref x0], (wr (wr (wr (wr σ x0 0 none) x0 1 none) x0 2 none) x0 3 none))) rfl ?_
  obtain ⟨h3, hf⟩ := grd hf
  refine go_puti rfl rfl rfl h3 rfl rfl rfl ?_
  cases hf
  exact go_r rfl
/-! OldWeather$Clause.<init>(III)V -/
def fX17_init (x0 : Nat) (x1 : Int32) (x2 : Int32) (x3 : Int32) (σ : Sg) : Option Sg :=
  if [26].elem (kk σ x0) = true then if [26].elem (kk σ x0) = true then if [26].elem (kk σ x0) = true then some (wi (wi (wi σ x0 0 x1) x0 1 x2) x0 2 x3) else none else none else none
set_option maxHeartbeats 1500000 in
theorem fX17_init_ok (x0 : Nat) (x1 : Int32) (x2 : Int32) (x3 : Int32) (σ : Sg) (r : Sg) (hf : fX17_init x0 x1 x2 x3 σ = some r) : Cl true 0 7424 [.ref x0, .int x1, .int x2, .int x3] σ (.inl none, r) := by
  refine ⟨iX17_init, rfl, Nat.le_of_ble_eq_true rfl, Nat.le_of_ble_eq_true rfl, ?_⟩
  show Go true 0 iX17_init (0, [some (.ref x0), some (.int x1), some (.int x2), some (.int x3)], [], σ) (.inl none, r)
  unfold fX17_init at hf
  refine go_n 1 (f := (1, [some (.ref x0), some (.int x1), some (.int x2), some (.int x3)], [.ref x0], σ)) rfl ?_
  refine go_b (mid := 20000) (args := [.ref x0]) (pc := 4) (L := [some (.ref x0), some (.int x1), some (.int x2), some (.int x3)]) (st := []) (σ := σ) rfl (by decide) rfl ?_
  refine go_n 2 (f := (6, [some (.ref x0), some (.int x1), some (.int x2), some (.int x3)], [.int x1, .ref x0], σ)) rfl ?_
  obtain ⟨h1, hf⟩ := grd hf
  refine go_puti rfl rfl rfl h1 rfl rfl rfl ?_
  refine go_n 2 (f := (11, [some (.ref x0), some (.int x1), some (.int x2), some (.int x3)], [.int x2, .ref x0], (wi σ x0 0 x1))) rfl ?_
  obtain ⟨h2, hf⟩ := grd hf
  refine go_puti rfl rfl rfl h2 rfl rfl rfl ?_
  refine go_n 2 (f := (16, [some (.ref x0), some (.int x1), some (.int x2), some (.int x3)], [.int x3, .ref x0], (wi (wi σ x0 0 x1) x0 1 x2))) rfl ?_
  obtain ⟨h3, hf⟩ := grd hf
  refine go_puti rfl rfl rfl h3 rfl rfl rfl ?_
  cases hf
  exact go_r rfl
/-! OldWeather$Sum.<init>()V -/
def fX18_init (x0 : Nat) : Option Unit :=
  some ()
set_option maxHeartbeats 1500000 in
theorem fX18_init_ok (x0 : Nat) (σ : Sg) (r : Unit) (hf : fX18_init x0 = some r) : Cl true 0 7680 [.ref x0] σ (.inl (none), σ) := by
  refine ⟨iX18_init, rfl, Nat.le_of_ble_eq_true rfl, Nat.le_of_ble_eq_true rfl, ?_⟩
  show Go true 0 iX18_init (0, [some (.ref x0)], [], σ) (.inl (none), σ)
  unfold fX18_init at hf
  refine go_n 1 (f := (1, [some (.ref x0)], [.ref x0], σ)) rfl ?_
  refine go_b (mid := 20000) (args := [.ref x0]) (pc := 4) (L := [some (.ref x0)]) (st := []) (σ := σ) rfl (by decide) rfl ?_
  cases hf
  exact go_r rfl
/-! OldWeather$Turned.<init>(LOldWeather$Sum;)V -/
def fX19_init (x0 : Nat) (x1 : Nat) (σ : Sg) : Option Sg :=
  (fX18_init x0).bind fun q1 => if [27].elem (kk σ x0) = true then if (stT true x0 0).isNone = true then some (wr σ x0 0 (some x1)) else none else none
set_option maxHeartbeats 1500000 in
theorem fX19_init_ok (x0 : Nat) (x1 : Nat) (σ : Sg) (r : Sg) (hf : fX19_init x0 x1 σ = some r) : Cl true 1 7936 [.ref x0, .ref x1] σ (.inl none, r) := by
  refine ⟨iX19_init, rfl, Nat.le_of_ble_eq_true rfl, Nat.le_of_ble_eq_true rfl, ?_⟩
  show Go true 1 iX19_init (0, [some (.ref x0), some (.ref x1)], [], σ) (.inl none, r)
  unfold fX19_init at hf
  refine go_n 1 (f := (1, [some (.ref x0), some (.ref x1)], [.ref x0], σ)) rfl ?_
  obtain ⟨q1, h2, hf⟩ := bnd hf
  refine go_c (mid := 7680) (args := [.ref x0]) (pc := 4) (L := [some (.ref x0), some (.ref x1)]) (st := []) (σ := σ) rfl ((fX18_init_ok _ _ q1 h2).deep (Nat.le_of_ble_eq_true rfl)) ?_
  refine go_n 2 (f := (6, [some (.ref x0), some (.ref x1)], [.ref x1, .ref x0], σ)) rfl ?_
  obtain ⟨h3, hf⟩ := grd hf
  obtain ⟨h4, hf⟩ := grd hf
  refine go_putr rfl rfl rfl h3 rfl h4 ?_
  cases hf
  exact go_r rfl
/-! OldWeather$Number.<init>(I)V -/
def fX20_init (x0 : Nat) (x1 : Int32) (σ : Sg) : Option Sg :=
  (fX18_init x0).bind fun q1 => if [28].elem (kk σ x0) = true then some (wi σ x0 0 x1) else none
set_option maxHeartbeats 1500000 in
theorem fX20_init_ok (x0 : Nat) (x1 : Int32) (σ : Sg) (r : Sg) (hf : fX20_init x0 x1 σ = some r) : Cl true 1 8448 [.ref x0, .int x1] σ (.inl none, r) := by
  refine ⟨iX20_init, rfl, Nat.le_of_ble_eq_true rfl, Nat.le_of_ble_eq_true rfl, ?_⟩
  show Go true 1 iX20_init (0, [some (.ref x0), some (.int x1)], [], σ) (.inl none, r)
  unfold fX20_init at hf
  refine go_n 1 (f := (1, [some (.ref x0), some (.int x1)], [.ref x0], σ)) rfl ?_
  obtain ⟨q1, h2, hf⟩ := bnd hf
  refine go_c (mid := 7680) (args := [.ref x0]) (pc := 4) (L := [some (.ref x0), some (.int x1)]) (st := []) (σ := σ) rfl ((fX18_init_ok _ _ q1 h2).deep (Nat.le_of_ble_eq_true rfl)) ?_
  refine go_n 2 (f := (6, [some (.ref x0), some (.int x1)], [.int x1, .ref x0], σ)) rfl ?_
  obtain ⟨h3, hf⟩ := grd hf
  refine go_puti rfl rfl rfl h3 rfl rfl rfl ?_
  cases hf
  exact go_r rfl
/-! OldWeather$Field.<init>(I)V -/
def fX21_init (x0 : Nat) (x1 : Int32) (σ : Sg) : Option Sg :=
  (fX18_init x0).bind fun q1 => if [29].elem (kk σ x0) = true then some (wi σ x0 0 x1) else none
set_option maxHeartbeats 1500000 in
theorem fX21_init_ok (x0 : Nat) (x1 : Int32) (σ : Sg) (r : Sg) (hf : fX21_init x0 x1 σ = some r) : Cl true 1 8704 [.ref x0, .int x1] σ (.inl none, r) := by
  refine ⟨iX21_init, rfl, Nat.le_of_ble_eq_true rfl, Nat.le_of_ble_eq_true rfl, ?_⟩
  show Go true 1 iX21_init (0, [some (.ref x0), some (.int x1)], [], σ) (.inl none, r)
  unfold fX21_init at hf
  refine go_n 1 (f := (1, [some (.ref x0), some (.int x1)], [.ref x0], σ)) rfl ?_
  obtain ⟨q1, h2, hf⟩ := bnd hf
  refine go_c (mid := 7680) (args := [.ref x0]) (pc := 4) (L := [some (.ref x0), some (.int x1)]) (st := []) (σ := σ) rfl ((fX18_init_ok _ _ q1 h2).deep (Nat.le_of_ble_eq_true rfl)) ?_
  refine go_n 2 (f := (6, [some (.ref x0), some (.int x1)], [.int x1, .ref x0], σ)) rfl ?_
  obtain ⟨h3, hf⟩ := grd hf
  refine go_puti rfl rfl rfl h3 rfl rfl rfl ?_
  cases hf
  exact go_r rfl
/-! OldWeather$Two.<init>(CLOldWeather$Sum;LOldWeather$Sum;)V -/
def fX22_init (x0 : Nat) (x1 : Int32) (x2 : Nat) (x3 : Nat) (σ : Sg) : Option Sg :=
  (fX18_init x0).bind fun q1 => if [30].elem (kk σ x0) = true then if am_ok 5 x1 = true then if [30].elem (kk σ x0) = true then if (stT true x0 1).isNone = true then if [30].elem (kk σ x0) = true then if (stT true x0 2).isNone = true then some (wr (wr (wi σ x0 0 x1) x0 1 (some x2)) x0 2 (some x3)) else none else none else none else none else none else none
set_option maxHeartbeats 1500000 in
theorem fX22_init_ok (x0 : Nat) (x1 : Int32) (x2 : Nat) (x3 : Nat) (σ : Sg) (r : Sg) (hf : fX22_init x0 x1 x2 x3 σ = some r) : Cl true 1 8960 [.ref x0, .int x1, .ref x2, .ref x3] σ (.inl none, r) := by
  refine ⟨iX22_init, rfl, Nat.le_of_ble_eq_true rfl, Nat.le_of_ble_eq_true rfl, ?_⟩
  show Go true 1 iX22_init (0, [some (.ref x0), some (.int x1), some (.ref x2), some (.ref x3)], [], σ) (.inl none, r)
  unfold fX22_init at hf
  refine go_n 1 (f := (1, [some (.ref x0), some (.int x1), some (.ref x2), some (.ref x3)], [.ref x0], σ)) rfl ?_
  obtain ⟨q1, h2, hf⟩ := bnd hf
  refine go_c (mid := 7680) (args := [.ref x0]) (pc := 4) (L := [some (.ref x0), some (.int x1), some (.ref x2), some (.ref x3)]) (st := []) (σ := σ) rfl ((fX18_init_ok _ _ q1 h2).deep (Nat.le_of_ble_eq_true rfl)) ?_
  refine go_n 2 (f := (6, [some (.ref x0), some (.int x1), some (.ref x2), some (.ref x3)], [.int x1, .ref x0], σ)) rfl ?_
  obtain ⟨h3, hf⟩ := grd hf
  obtain ⟨h4, hf⟩ := grd hf
  refine go_puti rfl rfl rfl h3 rfl h4 rfl ?_
  refine go_n 2 (f := (11, [some (.ref x0), some (.int x1), some (.ref x2), some (.ref x3)], [.ref x2, .ref x0], (wi σ x0 0 x1))) rfl ?_
  obtain ⟨h5, hf⟩ := grd hf
  obtain ⟨h6, hf⟩ := grd hf
  refine go_putr rfl rfl rfl h5 rfl h6 ?_
  refine go_n 2 (f := (16, [some (.ref x0), some (.int x1), some (.ref x2), some (.ref x3)], [.ref x3, .ref x0], (wr (wi σ x0 0 x1) x0 1 (some x2)))) rfl ?_
  obtain ⟨h7, hf⟩ := grd hf
  obtain ⟨h8, hf⟩ := grd hf
  refine go_putr rfl rfl rfl h7 rfl h8 ?_
  cases hf
  exact go_r rfl
/-! OldWeather$Test.<init>()V -/
def fX23_init (x0 : Nat) : Option Unit :=
  some ()
set_option maxHeartbeats 1500000 in
theorem fX23_init_ok (x0 : Nat) (σ : Sg) (r : Unit) (hf : fX23_init x0 = some r) : Cl true 0 9216 [.ref x0] σ (.inl (none), σ) := by
  refine ⟨iX23_init, rfl, Nat.le_of_ble_eq_true rfl, Nat.le_of_ble_eq_true rfl, ?_⟩
  show Go true 0 iX23_init (0, [some (.ref x0)], [], σ) (.inl (none), σ)
  unfold fX23_init at hf
  refine go_n 1 (f := (1, [some (.ref x0)], [.ref x0], σ)) rfl ?_
  refine go_b (mid := 20000) (args := [.ref x0]) (pc := 4) (L := [some (.ref x0)]) (st := []) (σ := σ) rfl (by decide) rfl ?_
  cases hf
  exact go_r rfl
/-! OldWeather$Compare.<init>(CLOldWeather$Sum;LOldWeather$Sum;)V -/
def fX24_init (x0 : Nat) (x1 : Int32) (x2 : Nat) (x3 : Nat) (σ : Sg) : Option Sg :=
  (fX23_init x0).bind fun q1 => if [31].elem (kk σ x0) = true then if am_ok 5 x1 = true then if [31].elem (kk σ x0) = true then if (stT true x0 1).isNone = true then if [31].elem (kk σ x0) = true then if (stT true x0 2).isNone = true then some (wr (wr (wi σ x0 0 x1) x0 1 (some x2)) x0 2 (some x3)) else none else none else none else none else none else none
set_option maxHeartbeats 1500000 in
theorem fX24_init_ok (x0 : Nat) (x1 : Int32) (x2 : Nat) (x3 : Nat) (σ : Sg) (r : Sg) (hf : fX24_init x0 x1 x2 x3 σ = some r) : Cl true 1 9472 [.ref x0, .int x1, .ref x2, .ref x3] σ (.inl none, r) := by
  refine ⟨iX24_init, rfl, Nat.le_of_ble_eq_true rfl, Nat.le_of_ble_eq_true rfl, ?_⟩
  show Go true 1 iX24_init (0, [some (.ref x0), some (.int x1), some (.ref x2), some (.ref x3)], [], σ) (.inl none, r)
  unfold fX24_init at hf
  refine go_n 1 (f := (1, [some (.ref x0), some (.int x1), some (.ref x2), some (.ref x3)], [.ref x0], σ)) rfl ?_
  obtain ⟨q1, h2, hf⟩ := bnd hf
  refine go_c (mid := 9216) (args := [.ref x0]) (pc := 4) (L := [some (.ref x0), some (.int x1), some (.ref x2), some (.ref x3)]) (st := []) (σ := σ) rfl ((fX23_init_ok _ _ q1 h2).deep (Nat.le_of_ble_eq_true rfl)) ?_
  refine go_n 2 (f := (6, [some (.ref x0), some (.int x1), some (.ref x2), some (.ref x3)], [.int x1, .ref x0], σ)) rfl ?_
  obtain ⟨h3, hf⟩ := grd hf
  obtain ⟨h4, hf⟩ := grd hf
  refine go_puti rfl rfl rfl h3 rfl h4 rfl ?_
  refine go_n 2 (f := (11, [some (.ref x0), some (.int x1), some (.ref x2), some (.ref x3)], [.ref x2, .ref x0], (wi σ x0 0 x1))) rfl ?_
  obtain ⟨h5, hf⟩ := grd hf
  obtain ⟨h6, hf⟩ := grd hf
  refine go_putr rfl rfl rfl h5 rfl h6 ?_
  refine go_n 2 (f := (16, [some (.ref x0), some (.int x1), some (.ref x2), some (.ref x3)], [.ref x3, .ref x0], (wr (wi σ x0 0 x1) x0 1 (some x2)))) rfl ?_
  obtain ⟨h7, hf⟩ := grd hf
  obtain ⟨h8, hf⟩ := grd hf
  refine go_putr rfl rfl rfl h7 rfl h8 ?_
  cases hf
  exact go_r rfl
/-! OldWeather$Not.<init>(LOldWeather$Test;)V -/
def fX25_init (x0 : Nat) (x1 : Nat) (σ : Sg) : Option Sg :=
  (fX23_init x0).bind fun q1 => if [32].elem (kk σ x0) = true then if (stT true x0 0).isNone = true then some (wr σ x0 0 (some x1)) else none else none
set_option maxHeartbeats 1500000 in
theorem fX25_init_ok (x0 : Nat) (x1 : Nat) (σ : Sg) (r : Sg) (hf : fX25_init x0 x1 σ = some r) : Cl true 1 9728 [.ref x0, .ref x1] σ (.inl none, r) := by
  refine ⟨iX25_init, rfl, Nat.le_of_ble_eq_true rfl, Nat.le_of_ble_eq_true rfl, ?_⟩
  show Go true 1 iX25_init (0, [some (.ref x0), some (.ref x1)], [], σ) (.inl none, r)
  unfold fX25_init at hf
  refine go_n 1 (f := (1, [some (.ref x0), some (.ref x1)], [.ref x0], σ)) rfl ?_
  obtain ⟨q1, h2, hf⟩ := bnd hf
  refine go_c (mid := 9216) (args := [.ref x0]) (pc := 4) (L := [some (.ref x0), some (.ref x1)]) (st := []) (σ := σ) rfl ((fX23_init_ok _ _ q1 h2).deep (Nat.le_of_ble_eq_true rfl)) ?_
  refine go_n 2 (f := (6, [some (.ref x0), some (.ref x1)], [.ref x1, .ref x0], σ)) rfl ?_
  obtain ⟨h3, hf⟩ := grd hf
  obtain ⟨h4, hf⟩ := grd hf
  refine go_putr rfl rfl rfl h3 rfl h4 ?_
  cases hf
  exact go_r rfl
/-! OldWeather$Several.<init>(Z)V -/
def fX26_init (x0 : Nat) (x1 : Int32) (σ : Sg) : Option Sg :=
  (fX23_init x0).bind fun q1 => (am_new σ (16, 0) 3).bind fun σ4 => (fJ2_init (gz σ) 2 σ4).bind fun q5 => if [33].elem (kk q5 x0) = true then if (stT true x0 1).isNone = true then if [33].elem (kk q5 x0) = true then if am_ok 3 x1 = true then some (wi (wr q5 x0 1 (some (gz σ))) x0 0 x1) else none else none else none else none
set_option maxHeartbeats 1500000 in
theorem fX26_init_ok (x0 : Nat) (x1 : Int32) (σ : Sg) (r : Sg) (hf : fX26_init x0 x1 σ = some r) : Cl true 3 9984 [.ref x0, .int x1] σ (.inl none, r) := by
  refine ⟨iX26_init, rfl, Nat.le_of_ble_eq_true rfl, Nat.le_of_ble_eq_true rfl, ?_⟩
  show Go true 3 iX26_init (0, [some (.ref x0), some (.int x1)], [], σ) (.inl none, r)
  unfold fX26_init at hf
  refine go_n 1 (f := (1, [some (.ref x0), some (.int x1)], [.ref x0], σ)) rfl ?_
  obtain ⟨q1, h2, hf⟩ := bnd hf
  refine go_c (mid := 9216) (args := [.ref x0]) (pc := 4) (L := [some (.ref x0), some (.int x1)]) (st := []) (σ := σ) rfl ((fX23_init_ok _ _ q1 h2).deep (Nat.le_of_ble_eq_true rfl)) ?_
  refine go_n 1 (f := (5, [some (.ref x0), some (.int x1)], [.ref x0], σ)) rfl ?_
  obtain ⟨σ4, h3, hf⟩ := bnd hf
  refine go_new rfl rfl rfl h3 ?_
  refine go_n 2 (f := (10, [some (.ref x0), some (.int x1)], [.int 2, .ref (gz σ), .ref (gz σ), .ref x0], σ4)) rfl ?_
  obtain ⟨q5, h6, hf⟩ := bnd hf
  refine go_c (mid := 2816) (args := [.ref (gz σ), .int 2]) (pc := 13) (L := [some (.ref x0), some (.int x1)]) (st := [.ref (gz σ), .ref x0]) (σ := σ4) rfl ((fJ2_init_ok _ _ _ q5 h6).deep (Nat.le_of_ble_eq_true rfl)) ?_
  obtain ⟨h7, hf⟩ := grd hf
  obtain ⟨h8, hf⟩ := grd hf
  refine go_putr rfl rfl rfl h7 rfl h8 ?_
  refine go_n 2 (f := (18, [some (.ref x0), some (.int x1)], [.int x1, .ref x0], (wr q5 x0 1 (some (gz σ))))) rfl ?_
  obtain ⟨h9, hf⟩ := grd hf
  obtain ⟨h10, hf⟩ := grd hf
  refine go_puti rfl rfl rfl h9 rfl h10 rfl ?_
  cases hf
  exact go_r rfl
/-! OldWeather$Rules.<init>(IILjava/util/ArrayList;)V -/
def fX27_init (x0 : Nat) (x1 : Int32) (x2 : Int32) (x3 : Nat) (σ : Sg) : Option Sg :=
  if [34].elem (kk σ x0) = true then if [34].elem (kk σ x0) = true then if [34].elem (kk σ x0) = true then if (stT true x0 2).isNone = true then some (wr (wi (wi σ x0 0 x1) x0 1 x2) x0 2 (some x3)) else none else none else none else none
set_option maxHeartbeats 1500000 in
theorem fX27_init_ok (x0 : Nat) (x1 : Int32) (x2 : Int32) (x3 : Nat) (σ : Sg) (r : Sg) (hf : fX27_init x0 x1 x2 x3 σ = some r) : Cl true 0 10240 [.ref x0, .int x1, .int x2, .ref x3] σ (.inl none, r) := by
  refine ⟨iX27_init, rfl, Nat.le_of_ble_eq_true rfl, Nat.le_of_ble_eq_true rfl, ?_⟩
  show Go true 0 iX27_init (0, [some (.ref x0), some (.int x1), some (.int x2), some (.ref x3)], [], σ) (.inl none, r)
  unfold fX27_init at hf
  refine go_n 1 (f := (1, [some (.ref x0), some (.int x1), some (.int x2), some (.ref x3)], [.ref x0], σ)) rfl ?_
  refine go_b (mid := 20000) (args := [.ref x0]) (pc := 4) (L := [some (.ref x0), some (.int x1), some (.int x2), some (.ref x3)]) (st := []) (σ := σ) rfl (by decide) rfl ?_
  refine go_n 2 (f := (6, [some (.ref x0), some (.int x1), some (.int x2), some (.ref x3)], [.int x1, .ref x0], σ)) rfl ?_
  obtain ⟨h1, hf⟩ := grd hf
  refine go_puti rfl rfl rfl h1 rfl rfl rfl ?_
  refine go_n 2 (f := (11, [some (.ref x0), some (.int x1), some (.int x2), some (.ref x3)], [.int x2, .ref x0], (wi σ x0 0 x1))) rfl ?_
  obtain ⟨h2, hf⟩ := grd hf
  refine go_puti rfl rfl rfl h2 rfl rfl rfl ?_
  refine go_n 2 (f := (16, [some (.ref x0), some (.int x1), some (.int x2), some (.ref x3)], [.ref x3, .ref x0], (wi (wi σ x0 0 x1) x0 1 x2))) rfl ?_
  obtain ⟨h3, hf⟩ := grd hf
  obtain ⟨h4, hf⟩ := grd hf
  refine go_putr rfl rfl rfl h3 rfl h4 ?_
  cases hf
  exact go_r rfl
/-! OldWeather$Note.<init>(IIIII)V -/
def fX28_init (x0 : Nat) (x1 : Int32) (x2 : Int32) (x3 : Int32) (x4 : Int32) (x5 : Int32) (σ : Sg) : Option Sg :=
  if [35].elem (kk σ x0) = true then if [35].elem (kk σ x0) = true then if [35].elem (kk σ x0) = true then if [35].elem (kk σ x0) = true then if [35].elem (kk σ x0) = true then some (wi (wi (wi (wi (wi σ x0 0 x1) x0 1 x2) x0 2 x3) x0 3 x4) x0 4 x5) else none else none else none else none else none
set_option maxHeartbeats 1500000 in
theorem fX28_init_ok (x0 : Nat) (x1 : Int32) (x2 : Int32) (x3 : Int32) (x4 : Int32) (x5 : Int32) (σ : Sg) (r : Sg) (hf : fX28_init x0 x1 x2 x3 x4 x5 σ = some r) : Cl true 0 10496 [.ref x0, .int x1, .int x2, .int x3, .int x4, .int x5] σ (.inl none, r) := by
  refine ⟨iX28_init, rfl, Nat.le_of_ble_eq_true rfl, Nat.le_of_ble_eq_true rfl, ?_⟩
  show Go true 0 iX28_init (0, [some (.ref x0), some (.int x1), some (.int x2), some (.int x3), some (.int x4), some (.int x5)], [], σ) (.inl none, r)
  unfold fX28_init at hf
  refine go_n 1 (f := (1, [some (.ref x0), some (.int x1), some (.int x2), some (.int x3), some (.int x4), some (.int x5)], [.ref x0], σ)) rfl ?_
  refine go_b (mid := 20000) (args := [.ref x0]) (pc := 4) (L := [some (.ref x0), some (.int x1), some (.int x2), some (.int x3), some (.int x4), some (.int x5)]) (st := []) (σ := σ) rfl (by decide) rfl ?_
  refine go_n 2 (f := (6, [some (.ref x0), some (.int x1), some (.int x2), some (.int x3), some (.int x4), some (.int x5)], [.int x1, .ref x0], σ)) rfl ?_
  obtain ⟨h1, hf⟩ := grd hf
  refine go_puti rfl rfl rfl h1 rfl rfl rfl ?_
  refine go_n 2 (f := (11, [some (.ref x0), some (.int x1), some (.int x2), some (.int x3), some (.int x4), some (.int x5)], [.int x2, .ref x0], (wi σ x0 0 x1))) rfl ?_
  obtain ⟨h2, hf⟩ := grd hf
  refine go_puti rfl rfl rfl h2 rfl rfl rfl ?_
  refine go_n 2 (f := (16, [some (.ref x0), some (.int x1), some (.int x2), some (.int x3), some (.int x4), some (.int x5)], [.int x3, .ref x0], (wi (wi σ x0 0 x1) x0 1 x2))) rfl ?_
  obtain ⟨h3, hf⟩ := grd hf
  refine go_puti rfl rfl rfl h3 rfl rfl rfl ?_
  refine go_n 2 (f := (22, [some (.ref x0), some (.int x1), some (.int x2), some (.int x3), some (.int x4), some (.int x5)], [.int x4, .ref x0], (wi (wi (wi σ x0 0 x1) x0 1 x2) x0 2 x3))) rfl ?_
  obtain ⟨h4, hf⟩ := grd hf
  refine go_puti rfl rfl rfl h4 rfl rfl rfl ?_
  refine go_n 2 (f := (28, [some (.ref x0), some (.int x1), some (.int x2), some (.int x3), some (.int x4), some (.int x5)], [.int x5, .ref x0], (wi (wi (wi (wi σ x0 0 x1) x0 1 x2) x0 2 x3) x0 3 x4))) rfl ?_
  obtain ⟨h5, hf⟩ := grd hf
  refine go_puti rfl rfl rfl h5 rfl rfl rfl ?_
  cases hf
  exact go_r rfl
/-! OldWeather$Setting.field(I)J -/
def fX3_field (x1 : Int32) (σ : Sg) : Option Int64 :=
  if x1 = 0 then some (gi σ 31 1).toInt64 else if x1 = 1 then some (gi σ 31 2).toInt64 else if x1 = 2 then some (gi σ 31 3).toInt64 else if x1 = 3 then some (gi σ 31 4).toInt64 else if x1 = 4 then some (gi σ 31 5).toInt64 else if x1 = 5 then some (gi σ 31 6).toInt64 else some (gi σ 31 7).toInt64
set_option maxHeartbeats 1500000 in
theorem fX3_field_ok (x1 : Int32) (σ : Sg) (r : Int64) (hf : fX3_field x1 σ = some r) : Cl true 0 11009 [.ref 31, .int x1] σ (.inl (some (.long r)), σ) := by
  refine ⟨iX3_field, rfl, Nat.le_of_ble_eq_true rfl, Nat.le_of_ble_eq_true rfl, ?_⟩
  show Go true 0 iX3_field (0, [some (.ref 31), some (.int x1)], [], σ) (.inl (some (.long r)), σ)
  unfold fX3_field at hf
  refine go_n 1 (f := (1, [some (.ref 31), some (.int x1)], [.int x1], σ)) rfl ?_
  by_cases h1 : x1 = 0
  · rw [if_pos h1] at hf
    refine go_tsw (t := 40) rfl rfl (by rw [h1]; rfl) ?_
    refine go_n 3 (f := (45, [some (.ref 31), some (.int x1)], [.long (gi σ 31 1).toInt64], σ)) rfl ?_
    cases hf
    exact go_r rfl
  · rw [if_neg h1] at hf
    by_cases h2 : x1 = 1
    · rw [if_pos h2] at hf
      refine go_tsw (t := 46) rfl rfl (by rw [h2]; rfl) ?_
      refine go_n 3 (f := (51, [some (.ref 31), some (.int x1)], [.long (gi σ 31 2).toInt64], σ)) rfl ?_
      cases hf
      exact go_r rfl
    · rw [if_neg h2] at hf
      by_cases h3 : x1 = 2
      · rw [if_pos h3] at hf
        refine go_tsw (t := 52) rfl rfl (by rw [h3]; rfl) ?_
        refine go_n 3 (f := (57, [some (.ref 31), some (.int x1)], [.long (gi σ 31 3).toInt64], σ)) rfl ?_
        cases hf
        exact go_r rfl
      · rw [if_neg h3] at hf
        by_cases h4 : x1 = 3
        · rw [if_pos h4] at hf
          refine go_tsw (t := 58) rfl rfl (by rw [h4]; rfl) ?_
          refine go_n 3 (f := (63, [some (.ref 31), some (.int x1)], [.long (gi σ 31 4).toInt64], σ)) rfl ?_
          cases hf
          exact go_r rfl
        · rw [if_neg h4] at hf
          by_cases h5 : x1 = 4
          · rw [if_pos h5] at hf
            refine go_tsw (t := 64) rfl rfl (by rw [h5]; rfl) ?_
            refine go_n 3 (f := (69, [some (.ref 31), some (.int x1)], [.long (gi σ 31 5).toInt64], σ)) rfl ?_
            cases hf
            exact go_r rfl
          · rw [if_neg h5] at hf
            by_cases h6 : x1 = 5
            · rw [if_pos h6] at hf
              refine go_tsw (t := 70) rfl rfl (by rw [h6]; rfl) ?_
              refine go_n 3 (f := (75, [some (.ref 31), some (.int x1)], [.long (gi σ 31 6).toInt64], σ)) rfl ?_
              cases hf
              exact go_r rfl
            · rw [if_neg h6] at hf
              have htt : am_ts 1 75 0 5 #[39, 45, 51, 57, 63, 69] x1 = some 76 := by
                have hts : x1.toInt < 0 ∨ 5 < x1.toInt := by
                  have h1t : x1.toInt ≠ 0 := tsn h1
                  have h2t : x1.toInt ≠ 1 := tsn h2
                  have h3t : x1.toInt ≠ 2 := tsn h3
                  have h4t : x1.toInt ≠ 3 := tsn h4
                  have h5t : x1.toInt ≠ 4 := tsn h5
                  have h6t : x1.toInt ≠ 5 := tsn h6
                  omega
                unfold am_ts; rw [if_pos hts]; rfl
              refine go_tsw (t := 76) rfl rfl htt ?_
              refine go_n 3 (f := (81, [some (.ref 31), some (.int x1)], [.long (gi σ 31 7).toInt64], σ)) rfl ?_
              cases hf
              exact go_r rfl
/-! OldWeather$Broken.<init>()V -/
def fX4_init (x0 : Nat) (σ : Sg) : Option Sg :=
  if (kk σ x0) = 24 ∨ (kk σ x0) = 25 then some (wr (wr (wr (wr σ x0 0 none) x0 1 none) x0 2 none) x0 3 none) else none
set_option maxHeartbeats 1500000 in
theorem fX4_init_ok (x0 : Nat) (σ : Sg) (r : Sg) (hf : fX4_init x0 σ = some r) : Cl true 0 11264 [.ref x0] σ (.inl none, r) := by
  refine ⟨iX4_init, rfl, Nat.le_of_ble_eq_true rfl, Nat.le_of_ble_eq_true rfl, ?_⟩
  show Go true 0 iX4_init (0, [some (.ref x0)], [], σ) (.inl none, r)
  unfold fX4_init at hf
  refine go_n 5 (f := (5, [some (.ref x0)], [.int 0, .int 0, .null, .null, .ref x0], σ)) rfl ?_
  obtain ⟨h1, hf⟩ := grd hf
  refine go_b (mid := 20006) (args := [.ref x0, .null, .null, .int 0, .int 0]) (pc := 8) (L := [some (.ref x0)]) (st := []) (σ := σ) rfl (by decide) (am_bi_exc h1) ?_
  cases hf
  exact go_r rfl
