def GT : List (List Mi) := [
  [iJ0_init],
  [iJ1_init],
  [iJ10_init],
  [iJ11_length, iJ11_coder, iJ11_charAt, iJ11_isLatin1, iJ11_checkIndex],
  [iJ12_checkIndex],
  [iJ13_checkIndex],
  [iJ14_init],
  [iJ15_charAt],
  [iJ16_charAt, iJ16_checkIndex, iJ16_length, iJ16_getChar],
  [iJ17_bitCount],
  [iJ18_init],
  [iJ2_init, iJ2_clear, iJ2_addAll, iJ2_toArray, iJ2_grow, iJ2_size, iJ2_add, iJ2_add_2, iJ2_grow_2, iJ2_get, iJ2_elementData],
  [iJ3_init, iJ3_init_2, iJ3_init_3],
  [iJ4_init, iJ4_init_2],
  [iJ5_max, iJ5_min, iJ5_abs, iJ5_min_2, iJ5_max_2, iJ5_floorDiv, iJ5_floorDiv_2],
  [iJ6_newLength, iJ6_hugeLength],
  [iJ7_copyOf, iJ7_copyOf_2],
  [iJ8_init],
  [iJ9_init],
  [([], 0, 0, 0, false, [], [])],
  [iX0_init, iX0_day, iX0_in, iX0_isDate, iX0_daysOf, iX0_isLong, iX0_dayAt, iX0_yearBegins, iX0_isDay, iX0_date, iX0_yearOf, iX0_monthOf, iX0_image, iX0_refuse, iX0_done, iX0_back, iX0_told, iX0_place, iX0_season, iX0_isPlace, iX0_like, iX0_source, iX0_turn, iX0_isSource, iX0_stopped, iX0_word, iX0_lacks, iX0_isDesk, iX0_puts, iX0_gauge, iX0_log, iX0_proxy, iX0_copy, iX0_isReading, iX0_strike, iX0_row, iX0_tenths, iX0_keeps, iX0_of, iX0_dates, iX0_as, iX0_feed, iX0_four, iX0_end, iX0_rules, iX0_fault, iX0_force, iX0_scale, iX0_learned, iX0_isSure, iX0_isKnown, iX0_rightOf, iX0_last, iX0_learns, iX0_bound, iX0_bounds, iX0_spans, iX0_within, iX0_weightOf, iX0_slip, iX0_same, iX0_counts, iX0_joined, iX0_joins, iX0_isOn, iX0_tells, iX0_led, iX0_left, iX0_wish, iX0_clear, iX0_best, iX0_quarrels, iX0_wishOf, iX0_areLike, iX0_quarrel, iX0_counts_2, iX0_tries, iX0_quarrelsOfRow, iX0_chosen, iX0_beside, iX0_judge, iX0_winter, iX0_isYear, iX0_winters, iX0_rank, iX0_often, iX0_offer, iX0_plan, iX0_widthsOf, iX0_hoursOf, iX0_seal, iX0_isMonth, iX0_sums, iX0_isIn, iX0_monthAt, iX0_alter, iX0_found, iX0_count, iX0_status],
  [iX1_init, iX1_takes, iX1_over, iX1_rows],
  [iX10_init, iX10_kind],
  [iX11_init, iX11_hasDegrees],
  [iX12_init, iX12_kind],
  [iX13_init, iX13_kind],
  [iX14_init, iX14_isEnd, iX14_next],
  [iX15_init, iX15_read, iX15_next, iX15_isIn, iX15_clause, iX15_takes, iX15_is, iX15_number, iX15_need, iX15_head, iX15_sum, iX15_term, iX15_part, iX15_opens, iX15_leaf, iX15_field, iX15_kind, iX15_test, iX15_both, iX15_plain, iX15_positive],
  [iX16_init],
  [iX17_init, iX17_holds],
  [iX18_init],
  [iX19_init, iX19_of],
  [iX2_init, iX2_looks, iX2_goes],
  [iX20_init, iX20_of],
  [iX21_init, iX21_of],
  [iX22_init, iX22_of],
  [iX23_init],
  [iX24_init, iX24_is],
  [iX25_init, iX25_is],
  [iX26_init, iX26_is],
  [iX27_init],
  [iX28_init],
  [iX29_hasDegrees],
  [iX3_init, iX3_field],
  [iX4_init],
  [iX5_init, iX5_looks, iX5_beside, iX5_held, iX5_end],
  [iX6_init, iX6_looks, iX6_joins, iX6_sharesOf, iX6_merges, iX6_isStopped, iX6_isTold, iX6_isJoined],
  [iX7_init, iX7_image, iX7_in, iX7_told, iX7_back, iX7_day, iX7_isDate, iX7_monthLong, iX7_isLong, iX7_dayOf, iX7_isDay, iX7_date, iX7_findDate, iX7_place, iX7_placeAt, iX7_season, iX7_isPlace, iX7_like, iX7_source, iX7_addFour, iX7_turn, iX7_isSource, iX7_stopped, iX7_word, iX7_tell, iX7_isKnown, iX7_isReading, iX7_keep, iX7_gauge, iX7_log, iX7_proxy, iX7_copy, iX7_of, iX7_findDays, iX7_sourceOf, iX7_get, iX7_as, iX7_strike, iX7_row, iX7_bitsAt, iX7_degreesOf, iX7_dayOn, iX7_feed, iX7_four, iX7_end, iX7_fault, iX7_rules, iX7_begin, iX7_next, iX7_isSmall, iX7_isDigit, iX7_readClause, iX7_headAt, iX7_isWord, iX7_must, iX7_number, iX7_kindAt, iX7_choice, iX7_readPieces, iX7_readExpression, iX7_readPlain, iX7_push, iX7_isSign, iX7_open, iX7_readPart, iX7_partAt, iX7_emit, iX7_settle, iX7_binds, iX7_behindSum, iX7_inner, iX7_isCompared, iX7_behindTest, iX7_textAt, iX7_force, iX7_knowBy, iX7_findAllDays, iX7_clauseAt, iX7_findOnes, iX7_lastOf, iX7_shared, iX7_bound, iX7_dayFirst, iX7_isTold, iX7_findBounds, iX7_putRight, iX7_find, iX7_setFor, iX7_placeOf, iX7_handOf, iX7_holds, iX7_run, iX7_reckon, iX7_keepSpan, iX7_within, iX7_findLearned, iX7_learn, iX7_findPairs, iX7_isSure, iX7_gaugeBy, iX7_at, iX7_ordered, iX7_scale, iX7_learned, iX7_slip, iX7_same, iX7_counts, iX7_doesCount, iX7_joined, iX7_noShifts, iX7_join, iX7_likeOf, iX7_weightOf, iX7_floor, iX7_tellJoined, iX7_led, iX7_left, iX7_wish, iX7_clear, iX7_best, iX7_countClashes, iX7_findShifts, iX7_shiftBy, iX7_wishOf, iX7_clash, iX7_rowsOf, iX7_quarrels, iX7_chosen, iX7_judge, iX7_beside, iX7_winter, iX7_isWinter, iX7_findWinter, iX7_addDays, iX7_rank, iX7_often, iX7_offer, iX7_plan, iX7_widthsBy, iX7_seal, iX7_isMonth, iX7_addMonth, iX7_isOf, iX7_sealAt, iX7_alter, iX7_found, iX7_count, iX7_status],
  [iX8_init],
  [iX9_init, iX9_kind]]
/-! the machine's runs; methods that are taken as one step -/
set_option maxRecDepth 100000
def am_pv (v : Option Value) (st : List Value) : List Value := match v with
  | some w => w :: st
  | none => st
/-- a part of a row copied into another row: ints, longs, bytes, booleans, references -/
def am_cpy (md : Bool) (σ : Sg) (a : Nat) (sp : Int32) (b : Nat) (dp n : Int32) : Option Sg :=
  if (kdT md σ a).1 = (kdT md σ b).1 ∧ ¬ sp < 0 ∧ ¬ dp < 0 ∧ ¬ n < 0 ∧ sp.toNatClampNeg + n.toNatClampNeg ≤ (kdT md σ a).2 ∧ dp.toNatClampNeg + n.toNatClampNeg ≤ (kdT md σ b).2 then
    match (kdT md σ a).1 with
    | 1 => some (cpi σ a sp.toNatClampNeg b dp.toNatClampNeg n.toNatClampNeg)
    | 2 => some (cpl σ a sp.toNatClampNeg b dp.toNatClampNeg n.toNatClampNeg)
    | 3 => some (cpi σ a sp.toNatClampNeg b dp.toNatClampNeg n.toNatClampNeg)
    | 5 => some (cpr σ a sp.toNatClampNeg b dp.toNatClampNeg n.toNatClampNeg)
    | _ => none
  else none
def am_cof (md : Bool) (σ : Sg) (a : Nat) (n : Int32) : Option (Nat × Sg) :=
  if (kdT md σ a).1 = 5 ∧ ¬ n < 0 ∧ (kdT md σ a).2 < 1000000 then
    match am_new σ (5, n.toNatClampNeg) n.toNatClampNeg with
    | some σ1 => some (gz σ, cpr σ1 a 0 (gz σ) 0 (min n.toNatClampNeg (kdT md σ a).2))
    | none => none
  else none
def am_sln (a : Nat) : Option Int32 := match am_str a with
  | some l => some (Int32.ofNat l.length)
  | none => none
def am_sat (a : Nat) (i : Int32) : Option Int32 := match am_str a with
  | some l => if inb i l.length then some (Int32.ofNat (l.getD i.toNatClampNeg 0)) else none
  | none => none
def am_b0 (args : List Value) (σ : Sg) : Option (Option Value × Sg) := match args with
  | [.ref _] => some (none, σ)
  | _ => none
def am_b1 (md : Bool) (args : List Value) (σ : Sg) : Option (Option Value × Sg) := match args with
  | [.ref a, .int sp, .ref b, .int dp, .int n] => match am_cpy md σ a sp b dp n with
    | some σ1 => some (none, σ1)
    | none => none
  | _ => none
def am_b2 (md : Bool) (args : List Value) (σ : Sg) : Option (Option Value × Sg) := match args with
  | [.ref a, .int n] => match am_cof md σ a n with
    | some (q, σ1) => some (some (.ref q), σ1)
    | none => none
  | _ => none
def am_b3 (args : List Value) (σ : Sg) : Option (Option Value × Sg) := match args with
  | [.int x] => if x.toUInt32 &&& 0x7fffffff ≤ 0x7f800000 then some (some (.float x.toUInt32), σ) else none
  | _ => none
def am_b4 (args : List Value) (σ : Sg) : Option (Option Value × Sg) := match args with
  | [.ref a] => match am_sln a with
    | some q => some (some (.int q), σ)
    | none => none
  | _ => none
def am_b5 (args : List Value) (σ : Sg) : Option (Option Value × Sg) := match args with
  | [.ref a, .int i] => match am_sat a i with
    | some q => some (some (.int q), σ)
    | none => none
  | _ => none
def am_b6 (md : Bool) (args : List Value) (σ : Sg) : Option (Option Value × Sg) := match args with
  | [.ref a, .null, .null, .int x, .int y] => if x = 0 ∧ y = 0 ∧ ((kdT md σ a).1 = 24 ∨ (kdT md σ a).1 = 25) then some (none, wr (wr (wr (wr σ a 0 none) a 1 none) a 2 none) a 3 none) else none
  | _ => none
/-- what sort a reading is; whether it may bound degrees -/
def am_kdo (c : Nat) : Option Int32 := match c with
  | 17 => some 0
  | 18 => some 1
  | 19 => some 2
  | 20 => some 3
  | 21 => some 4
  | _ => none
def am_hdo (c : Nat) : Option Int32 := match c with
  | 17 => some 1
  | 18 => some 1
  | 19 => some 0
  | 20 => some 1
  | 21 => some 1
  | _ => none
def am_b7 (md : Bool) (args : List Value) (σ : Sg) : Option (Option Value × Sg) := match args with
  | [.ref a] => match am_kdo (kdT md σ a).1 with
    | some q => some (some (.int q), σ)
    | none => none
  | _ => none
def am_b8 (md : Bool) (args : List Value) (σ : Sg) : Option (Option Value × Sg) := match args with
  | [.ref a] => match am_hdo (kdT md σ a).1 with
    | some q => some (some (.int q), σ)
    | none => none
  | _ => none
def am_bi (md : Bool) (mid : Nat) (args : List Value) (σ : Sg) : Option (Option Value × Sg) :=
  if mid = 20000 then am_b0 args σ else if mid = 20001 then am_b1 md args σ else if mid = 20002 then am_b2 md args σ else if mid = 20003 then am_b3 args σ else if mid = 20004 then am_b4 args σ else if mid = 20005 then am_b5 args σ else if mid = 20006 then am_b6 md args σ else if mid = 20007 then am_b7 md args σ else if mid = 20008 then am_b8 md args σ else none
/-- where a thrown thing is caught: 1 Fault, 2 Broken, 3 index, 4 cast (of another sort: stuck) -/
def am_hnd : List (Nat × Nat × Nat × Nat) → Nat → Nat → Option Nat
  | [], _, _ => none
  | (a, b, t, x) :: l, pc, ec => if a ≤ pc ∧ pc < b then (if x = ec then some t else some 99999) else am_hnd l pc ec
/-- the room that the machine's own throwing takes is charged where it is caught -/
def bmp (σ : Sg) : Sg := (σ.1, σ.2.1, σ.2.2.1, σ.2.2.2.1, σ.2.2.2.2.1, σ.2.2.2.2.2 + 3000)
/-- the frame that goes on behind a throw that is caught here: what the machine made itself is put away by the first instruction -/
def am_cat (M : Mi) (pc ec a : Nat) (L : Lo) (σ : Sg) : Option Fr := match am_hnd (am_hh M) pc ec with
  | none => none
  | some t => if ec ≤ 2 then some (t, L, [.ref a], σ) else match am_fetch M t with
    | some (.astore_n n, 1) => some (t + 1, (am_kl (am_dead (am_dd M) t L) (n : Nat)).set (n : Nat) none, [], bmp σ)
    | some (.astore n, 2) => some (t + 2, (am_kl (am_dead (am_dd M) t L) n).set n none, [], bmp σ)
    | _ => some (99999, L, [], σ)
def am_G (mid : Nat) : Option Mi := match GT[mid / 256]? with
  | some l => l[mid % 256]?
  | none => none
/-- the method that is called, if its arguments have room -/
def am_G1 (mid : Nat) (args : List Value) : Option Mi := match am_G mid with
  | some M => if (am_ent args).length ≤ am_nl M then some M else none
  | none => none
theorem am_G1_of {mid : Nat} {args : List Value} {M : Mi} (h : am_G mid = some M) (hl : (am_ent args).length ≤ am_nl M) : am_G1 mid args = some M := by
  unfold am_G1
  rw [h]
  dsimp only
  rw [if_pos hl]
theorem am_G1_i {mid : Nat} {args : List Value} {M : Mi} (h : am_G1 mid args = some M) : am_G mid = some M ∧ (am_ent args).length ≤ am_nl M := by
  unfold am_G1 at h
  split at h
  · rename_i M1 h1
    split at h
    · rename_i hl
      cases h
      exact ⟨h1, hl⟩
    · cases h
  · cases h
def am_ex : Nat → Bool → Nat → Mi → Fr → Option (Ou × Sg)
  | 0, _, _, _, _ => none
  | n + 1, md, d, M, fr => match am_stp md M fr with
    | none => none
    | some (.inl f) => am_ex n md d M f
    | some (.inr (.inl (.inl v, σ))) => some (.inl v, σ)
    | some (.inr (.inl (.inr (ec, a), σ))) => match am_cat M fr.1 ec a (am_dead (am_dd M) fr.1 fr.2.1) σ with
      | some f => am_ex n md d M f
      | none => some (.inr (ec, a), σ)
    | some (.inr (.inr (mid, args, pc, L, st, σ))) =>
      if 20000 ≤ mid then match am_bi md mid args σ with
        | some (v, σ1) => am_ex n md d M (pc, L, am_pv v st, σ1)
        | none => none
      else match d with
        | 0 => none
        | d + 1 => match am_G1 mid args with
          | none => none
          | some M1 => match am_ex n md d M1 (0, am_pad (am_nl M1) (am_ent args), [], σ) with
            | some (.inl v, σ1) => am_ex n md (d + 1) M (pc, L, am_pv v st, σ1)
            | some (.inr (ec, a), σ1) => match am_cat M fr.1 ec a L σ1 with
              | some f => am_ex n md (d + 1) M f
              | none => some (.inr (ec, a), σ1)
            | none => none
theorem am_ex_mono : ∀ (n : Nat) (md : Bool) (d : Nat) (M : Mi) (fr : Fr) (r : Ou × Sg), am_ex n md d M fr = some r → ∀ k, am_ex (n + k) md d M fr = some r := by
  intro n
  induction n with
  | zero => intro md d M fr r h; cases h
  | succ n ih =>
    intro md d M fr r h k
    rw [Nat.add_right_comm]
    unfold am_ex at h ⊢
    split at h
    · cases h
    · exact ih _ _ _ _ _ h k
    · exact h
    · split at h
      · exact ih _ _ _ _ _ h k
      · exact h
    · rename_i mid args pc L st σ _
      by_cases hm : 20000 ≤ mid
      · rw [if_pos hm] at h ⊢
        split at h
        · exact ih _ _ _ _ _ h k
        · cases h
      · rw [if_neg hm] at h ⊢
        cases d with
        | zero => cases h
        | succ d =>
          dsimp only at h ⊢
          split at h
          · cases h
          · split at h
            · rename_i h1
              rw [ih _ _ _ _ _ h1 k]
              exact ih _ _ _ _ _ h k
            · rename_i h1
              rw [ih _ _ _ _ _ h1 k]
              dsimp only
              split at h
              · exact ih _ _ _ _ _ h k
              · exact h
            · cases h
theorem am_ex_deep : ∀ (n : Nat) (md : Bool) (d : Nat) (M : Mi) (fr : Fr) (r : Ou × Sg), am_ex n md d M fr = some r → ∀ k, am_ex n md (d + k) M fr = some r := by
  intro n
  induction n with
  | zero => intro md d M fr r h; cases h
  | succ n ih =>
    intro md d M fr r h k
    unfold am_ex at h ⊢
    split at h
    · cases h
    · exact ih _ _ _ _ _ h k
    · exact h
    · split at h
      · exact ih _ _ _ _ _ h k
      · exact h
    · rename_i mid args pc L st σ _
      by_cases hm : 20000 ≤ mid
      · rw [if_pos hm] at h ⊢
        split at h
        · exact ih _ _ _ _ _ h k
        · cases h
      · rw [if_neg hm] at h ⊢
        cases d with
        | zero => cases h
        | succ d =>
          rw [Nat.add_right_comm]
          dsimp only at h ⊢
          split at h
          · cases h
          · split at h
            · rename_i h1
              rw [ih _ _ _ _ _ h1 k]
              have h2 := ih _ _ _ _ _ h k
              rw [Nat.add_right_comm] at h2
              exact h2
            · rename_i h1
              rw [ih _ _ _ _ _ h1 k]
              dsimp only
              split at h
              · have h2 := ih _ _ _ _ _ h k
                rw [Nat.add_right_comm] at h2
                exact h2
              · exact h
            · cases h
def Go (md : Bool) (d : Nat) (M : Mi) (fr : Fr) (r : Ou × Sg) : Prop := ∃ n, am_ex n md d M fr = some r
def Cl (md : Bool) (d mid : Nat) (args : List Value) (σ : Sg) (r : Ou × Sg) : Prop := ∃ M, am_G mid = some M ∧ mid < 20000 ∧ (am_ent args).length ≤ am_nl M ∧ Go md d M (0, am_pad (am_nl M) (am_ent args), [], σ) r
theorem Go.deep {md : Bool} {d e : Nat} {M : Mi} {fr : Fr} {r : Ou × Sg} (h : Go md d M fr r) (hd : d ≤ e) : Go md e M fr r := by
  obtain ⟨n, h⟩ := h
  obtain ⟨k, rfl⟩ := Nat.exists_eq_add_of_le hd
  exact ⟨n, am_ex_deep _ _ _ _ _ _ h k⟩
theorem Cl.deep {md : Bool} {d e mid : Nat} {args : List Value} {σ : Sg} {r : Ou × Sg} (h : Cl md d mid args σ r) (hd : d ≤ e) : Cl md e mid args σ r := by
  obtain ⟨M, h1, h2, hl, h3⟩ := h
  exact ⟨M, h1, h2, hl, h3.deep hd⟩
theorem go_1 {md : Bool} {d : Nat} {M : Mi} {fr f : Fr} {r : Ou × Sg} (h : am_stp md M fr = some (.inl f)) (k : Go md d M f r) : Go md d M fr r := by
  obtain ⟨n, k⟩ := k
  refine ⟨n + 1, ?_⟩
  unfold am_ex
  rw [h]
  exact k
theorem go_n (k : Nat) {md : Bool} {d : Nat} {M : Mi} {fr f : Fr} {r : Ou × Sg} (h : am_n md M k fr = some f) (g : Go md d M f r) : Go md d M fr r := by
  induction k generalizing fr with
  | zero => cases h; exact g
  | succ k ih =>
    unfold am_n at h
    split at h
    · rename_i h1
      exact go_1 h1 (ih h)
    · cases h
theorem go_r {md : Bool} {d : Nat} {M : Mi} {fr : Fr} {v : Option Value} {σ : Sg} (h : am_stp md M fr = some (.inr (.inl (.inl v, σ)))) : Go md d M fr (.inl v, σ) := by
  refine ⟨1, ?_⟩
  unfold am_ex
  rw [h]
/-- thrown here, not caught here -/
theorem go_t {md : Bool} {d : Nat} {M : Mi} {fr : Fr} {ec a : Nat} {σ : Sg} (h : am_stp md M fr = some (.inr (.inl (.inr (ec, a), σ)))) (hc : am_cat M fr.1 ec a (am_dead (am_dd M) fr.1 fr.2.1) σ = none) : Go md d M fr (.inr (ec, a), σ) := by
  refine ⟨1, ?_⟩
  unfold am_ex
  rw [h]
  dsimp only
  rw [hc]
/-- thrown here, caught here -/
theorem go_tc {md : Bool} {d : Nat} {M : Mi} {fr f : Fr} {ec a : Nat} {σ : Sg} {r : Ou × Sg} (h : am_stp md M fr = some (.inr (.inl (.inr (ec, a), σ)))) (hc : am_cat M fr.1 ec a (am_dead (am_dd M) fr.1 fr.2.1) σ = some f) (k : Go md d M f r) : Go md d M fr r := by
  obtain ⟨n, k⟩ := k
  refine ⟨n + 1, ?_⟩
  unfold am_ex
  rw [h]
  dsimp only
  rw [hc]
  exact k
theorem go_b {md : Bool} {d mid : Nat} {M : Mi} {fr : Fr} {args : List Value} {pc : Nat} {L : Lo} {st : List Value} {σ σ1 : Sg} {v : Option Value} {r : Ou × Sg} (h : am_stp md M fr = some (.inr (.inr (mid, args, pc, L, st, σ)))) (hm : 20000 ≤ mid) (hb : am_bi md mid args σ = some (v, σ1)) (k : Go md d M (pc, L, am_pv v st, σ1) r) : Go md d M fr r := by
  obtain ⟨n, k⟩ := k
  refine ⟨n + 1, ?_⟩
  unfold am_ex
  rw [h]
  dsimp only
  rw [if_pos hm, hb]
  exact k
theorem go_c {md : Bool} {d mid : Nat} {M : Mi} {fr : Fr} {args : List Value} {pc : Nat} {L : Lo} {st : List Value} {σ σ1 : Sg} {v : Option Value} {r : Ou × Sg} (h : am_stp md M fr = some (.inr (.inr (mid, args, pc, L, st, σ)))) (hc : Cl md d mid args σ (.inl v, σ1)) (k : Go md (d + 1) M (pc, L, am_pv v st, σ1) r) : Go md (d + 1) M fr r := by
  obtain ⟨n, k⟩ := k
  obtain ⟨M1, h1, h2, hl, j, h3⟩ := hc
  refine ⟨n + j + 1, ?_⟩
  unfold am_ex
  rw [h]
  dsimp only
  rw [if_neg (by omega), am_G1_of h1 hl]
  dsimp only
  rw [show n + j = j + n by omega, am_ex_mono _ _ _ _ _ _ h3 n]
  dsimp only
  rw [show j + n = n + j by omega]
  exact am_ex_mono _ _ _ _ _ _ k j
/-- a call that throws, not caught here -/
theorem go_ct {md : Bool} {d mid : Nat} {M : Mi} {fr : Fr} {args : List Value} {pc : Nat} {L : Lo} {st : List Value} {σ σ1 : Sg} {ec a : Nat} (h : am_stp md M fr = some (.inr (.inr (mid, args, pc, L, st, σ)))) (hc : Cl md d mid args σ (.inr (ec, a), σ1)) (hn : am_cat M fr.1 ec a L σ1 = none) : Go md (d + 1) M fr (.inr (ec, a), σ1) := by
  obtain ⟨M1, h1, h2, hl, j, h3⟩ := hc
  refine ⟨j + 1, ?_⟩
  unfold am_ex
  rw [h]
  dsimp only
  rw [if_neg (by omega), am_G1_of h1 hl]
  dsimp only
  rw [h3]
  dsimp only
  rw [hn]
/-- a call that throws, caught here -/
theorem go_cc {md : Bool} {d mid : Nat} {M : Mi} {fr f : Fr} {args : List Value} {pc : Nat} {L : Lo} {st : List Value} {σ σ1 : Sg} {ec a : Nat} {r : Ou × Sg} (h : am_stp md M fr = some (.inr (.inr (mid, args, pc, L, st, σ)))) (hc : Cl md d mid args σ (.inr (ec, a), σ1)) (hn : am_cat M fr.1 ec a L σ1 = some f) (k : Go md (d + 1) M f r) : Go md (d + 1) M fr r := by
  obtain ⟨n, k⟩ := k
  obtain ⟨M1, h1, h2, hl, j, h3⟩ := hc
  refine ⟨n + j + 1, ?_⟩
  unfold am_ex
  rw [h]
  dsimp only
  rw [if_neg (by omega), am_G1_of h1 hl]
  dsimp only
  rw [show n + j = j + n by omega, am_ex_mono _ _ _ _ _ _ h3 n]
  dsimp only
  rw [hn]
  dsimp only
  rw [show j + n = n + j by omega]
  exact am_ex_mono _ _ _ _ _ _ k j
theorem grd {α : Type} {c : Prop} [Decidable c] {x : Option α} {r : α} (h : (if c then x else none) = some r) : c ∧ x = some r := by
  by_cases hc : c
  · rw [if_pos hc] at h; exact ⟨hc, h⟩
  · rw [if_neg hc] at h; cases h
theorem bnd {α β : Type} {x : Option α} {f : α → Option β} {r : β} (h : x.bind f = some r) : ∃ y, x = some y ∧ f y = some r := by
  cases x with
  | none => cases h
  | some y => exact ⟨y, rfl, h⟩
def N0 : Nat := 200000
def lp {S R : Type} (f : (S → Option R) → S → Option R) : Nat → S → Option R
  | 0, _ => none
  | n + 1, s => f (lp f n) s
