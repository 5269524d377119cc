/-! THE PLAIN LAW: sums and tests, as objects and as code -/
section
variable {R : Int → Int} {A : Nat → Int → Nat} {M : Nat → Nat} {Im : Nat → Prop} {σ : Sg} {t : Int} {st : Int → Int}
def rck (op a b : Int) : Option Int := if op = 8 then some (a + b) else if op = 9 then some (a - b) else if op = 10 then some (a * b) else if op = 11 then (if b = 0 then none else some (a.tdiv b)) else if op = 12 then some (if a < b then 1 else 0) else if op = 13 then some (if b < a then 1 else 0) else some (if a = b then 1 else 0)
/-- a run over code: none, it can't; some none, broken; else the value -/
def rnn (R : Int → Int) (t : Int) (st : Int → Int) (last : Int) : Nat → Int → List Int → Option (Option Int)
  | 0, _, _ => none
  | f + 1, k, l => if last ≤ k then some (some (l.getLast?.getD 0)) else
    if rOp R t k < 8 then
      let x := if rOp R t k = 0 then rAr R t k else st (rOp R t k)
      if -1000000 ≤ x ∧ x ≤ 1000000 then rnn R t st last f (k + 1) (x :: l) else some none
    else if rOp R t k < 15 then
      match l with
      | b :: a :: l => match rck (rOp R t k) a b with
        | some x => if -1000000 ≤ x ∧ x ≤ 1000000 then rnn R t st last f (k + 1) (x :: l) else some none
        | none => some none
      | _ => none
    else match l with
      | a :: l => if rOp R t k = 15 then rnn R t st last f (k + 1) ((-a) :: l) else if rOp R t k = 17 then (if a = 0 ∨ a = 1 then rnn R t st last f (k + 1) ((1 - a) :: l) else none) else
        if a = (if rOp R t k = 18 then 0 else 1) then (if k < rAr R t k then rnn R t st last f (rAr R t k) (a :: l) else none) else rnn R t st last f (k + 1) l
      | [] => none
theorem rnn_x {last k x : Int} {f : Nat} {l : List Int} (h : k < last) (g : rOp R t k < 8) (e : x = if rOp R t k = 0 then rAr R t k else st (rOp R t k)) (b : -1000000 ≤ x ∧ x ≤ 1000000) : rnn R t st last (f + 1) k l = rnn R t st last f (k + 1) (x :: l) := by
  subst e
  show (if _ then _ else _) = _
  rw [if_neg (by omega), if_pos g]
  exact if_pos b
theorem rnn_2 {last k a b : Int} {f : Nat} {l : List Int} (h : k < last) (g : 8 ≤ rOp R t k ∧ rOp R t k < 15) : rnn R t st last (f + 1) k (b :: a :: l) = match rck (rOp R t k) a b with
        | some x => if -1000000 ≤ x ∧ x ≤ 1000000 then rnn R t st last f (k + 1) (x :: l) else some none
        | none => some none := by
  show (if _ then _ else _) = _
  rw [if_neg (by omega), if_neg (by omega), if_pos g.2]
theorem rnn_1 {last k a : Int} {f : Nat} {l : List Int} (h : k < last) (g : 15 ≤ rOp R t k) : rnn R t st last (f + 1) k (a :: l) = if rOp R t k = 15 then rnn R t st last f (k + 1) ((-a) :: l) else if rOp R t k = 17 then (if a = 0 ∨ a = 1 then rnn R t st last f (k + 1) ((1 - a) :: l) else none) else
        if a = (if rOp R t k = 18 then 0 else 1) then (if k < rAr R t k then rnn R t st last f (rAr R t k) (a :: l) else none) else rnn R t st last f (k + 1) l := by
  show (if _ then _ else _) = _
  rw [if_neg (by omega), if_neg (by omega), if_neg (by omega)]
def StC (st : Int → Int) (σ : Sg) : Prop := ∀ j : Int, 1 ≤ j → j ≤ 7 → gi σ 31 j.toNat = i3 (st j) ∧ -1000000 ≤ st j ∧ st j ≤ 1000000
abbrev oS (o : Option Int) : Int64 ⊕ (Nat × Nat) := match o with
  | some v => .inl (i6 v)
  | none => .inr (2, 32)
theorem el27 : ([27].elem 27 = true) = True := eq_true rfl
theorem el28 : ([28].elem 28 = true) = True := eq_true rfl
theorem el29 : ([29].elem 29 = true) = True := eq_true rfl
theorem el30 : ([30].elem 30 = true) = True := eq_true rfl
theorem el31 : ([31].elem 31 = true) = True := eq_true rfl
theorem el32 : ([32].elem 32 = true) = True := eq_true rfl
theorem el33 : ([33].elem 33 = true) = True := eq_true rfl
theorem tdiv_b {a b : Int} (ha : -1000000 ≤ a ∧ a ≤ 1000000) (hb : b ≠ 0) : -1000000 ≤ a.tdiv b ∧ a.tdiv b ≤ 1000000 := by
  have h := Int.natAbs_tdiv_le_natAbs a b
  omega
/-- two sums by a sign -/
theorem x22_two {a b op g : Int} (n : Nat → Nat → Sg → Option (Int64 ⊕ (Nat × Nat))) {s : Nat} (k : kk σ s = 30) (e : gi σ s 0 = i3 g) (ha : -1000000 ≤ a ∧ a ≤ 1000000) (hb : -1000000 ≤ b ∧ b ≤ 1000000) (hop : (op = 8 ∧ g = 43) ∨ (op = 9 ∧ g = 45) ∨ (op = 10 ∧ g = 42) ∨ (op = 11 ∧ g = 47 ∧ b ≠ 0)) : ∃ o : Option Int, (∀ v, o = some v → -1000000 ≤ v ∧ v ≤ 1000000) ∧ fX22_of_J40 n s 31 (i6 a) (i6 b) σ = some (oS o) ∧ (match rck op a b with | some x => if -1000000 ≤ x ∧ x ≤ 1000000 then some x else none | none => none) = o := by
  have fin : ∀ x : Int, -9223372036854775808 ≤ x ∧ x < 9223372036854775808 → fX22_of_J92 n 31 (i6 x) σ = some (oS (if -1000000 ≤ x ∧ x ≤ 1000000 then some x else none)) := by
    intro x hx
    unfold fX22_of_J92 fX22_of_J112
    by_cases q : -1000000 ≤ x ∧ x ≤ 1000000
    · rw [if_pos q, if_neg (by rw [i6_lit, i6_lt (by omega) (by omega)]; omega), if_pos (by rw [i6_lit, i6_neg, i6_le (by omega) (by omega)]; omega)]
    · rw [if_neg q]
      by_cases q1 : (1000000 : Int) < x
      · rw [if_pos (by rw [i6_lit, i6_lt (by omega) (by omega)]; omega)]
        rfl
      · rw [if_neg (by rw [i6_lit, i6_lt (by omega) (by omega)]; omega), if_neg (by rw [i6_lit, i6_neg, i6_le (by omega) (by omega)]; omega)]
        rfl
  have hm : -1000000000000 ≤ a * b ∧ a * b ≤ 1000000000000 := by
    have h1 : (a * b).natAbs ≤ 1000000 * 1000000 := by rw [Int.natAbs_mul]; exact Nat.mul_le_mul (by omega) (by omega)
    omega
  have bd : ∀ x v : Int, (if -1000000 ≤ x ∧ x ≤ 1000000 then some x else none) = some v → -1000000 ≤ v ∧ v ≤ 1000000 := by
    intro x v q
    by_cases z : -1000000 ≤ x ∧ x ≤ 1000000
    · rw [if_pos z] at q; cases q; exact z
    · rw [if_neg z] at q; cases q
  rcases hop with ⟨rfl, rfl⟩ | ⟨rfl, rfl⟩ | ⟨rfl, rfl⟩ | ⟨rfl, rfl, hb0⟩
  · refine ⟨_, bd (a + b), ?_, rfl⟩
    simp (disch := omega) only [fX22_of_J40, k, e, el30, i3_lit, i3_eq, i6_add, and_self, and_true, true_and, and_false, false_and, if_true, if_false, not_true_eq_false, not_false_eq_true, ne_eq, true_or, or_true, or_false, false_or, or_self, reduceCtorEq, Nat.reduceEqDiff, Int.reduceEq, Int.reduceLT, Int.reduceLE, Int.reduceAdd, Int.reduceSub, Int.reduceNeg, ↓reduceIte, if_n, i3_ite]
    exact fin _ (by omega)
  · refine ⟨_, bd (a - b), ?_, rfl⟩
    simp (disch := omega) only [fX22_of_J40, k, e, el30, i3_lit, i3_eq, i6_sub, and_self, and_true, true_and, and_false, false_and, if_true, if_false, not_true_eq_false, not_false_eq_true, ne_eq, true_or, or_true, or_false, false_or, or_self, reduceCtorEq, Nat.reduceEqDiff, Int.reduceEq, Int.reduceLT, Int.reduceLE, Int.reduceAdd, Int.reduceSub, Int.reduceNeg, ↓reduceIte, if_n, i3_ite]
    exact fin _ (by omega)
  · refine ⟨_, bd (a * b), ?_, rfl⟩
    simp (disch := omega) only [fX22_of_J40, k, e, el30, i3_lit, i3_eq, i6_mul, and_self, and_true, true_and, and_false, false_and, if_true, if_false, not_true_eq_false, not_false_eq_true, ne_eq, true_or, or_true, or_false, false_or, or_self, reduceCtorEq, Nat.reduceEqDiff, Int.reduceEq, Int.reduceLT, Int.reduceLE, Int.reduceAdd, Int.reduceSub, Int.reduceNeg, ↓reduceIte, if_n, i3_ite]
    exact fin _ (by omega)
  · have ht := tdiv_b ha hb0
    refine ⟨_, bd (a.tdiv b), ?_, ?_⟩
    · simp (disch := omega) only [fX22_of_J40, k, e, el30, i3_lit, i3_eq, i6_lit, i6_eq, i6_tdiv, hb0, and_self, and_true, true_and, and_false, false_and, if_true, if_false, not_true_eq_false, not_false_eq_true, ne_eq, true_or, or_true, or_false, false_or, or_self, reduceCtorEq, Nat.reduceEqDiff, Int.reduceEq, Int.reduceLT, Int.reduceLE, Int.reduceAdd, Int.reduceSub, Int.reduceNeg, ↓reduceIte, if_n, i3_ite]
      exact fin _ (by omega)
    · show (match (if b = 0 then none else some (a.tdiv b)) with | some x => if -1000000 ≤ x ∧ x ≤ 1000000 then some x else none | none => none) = _
      rw [if_neg hb0]
theorem evS (hst : StC st σ) : ∀ (n s : Nat) (lo hi : Int), RepS R Im σ t n s lo hi → lo < hi ∧ ∃ o : Option Int, (∀ v, o = some v → -1000000 ≤ v ∧ v ≤ 1000000) ∧ (∀ m, n ≤ m → rO m s 31 σ = some (oS o)) ∧ ∀ (last : Int) (f : Nat) (l : List Int), hi ≤ last → rnn R t st last (f + (hi - lo).toNat) lo l = match o with | some v => rnn R t st last f hi (v :: l) | none => some none := by
  intro n
  induction n with
  | zero => intro s lo hi h; exact h.elim
  | succ n ih =>
    rintro s lo hi ⟨-, h⟩
    rcases h with ⟨k, rfl, h0, hb, e⟩ | ⟨k, rfl, h0, e⟩ | ⟨k, a, e, ha, h15⟩ | ⟨k, a, b, mid, ea, eb, ra, rb, hop⟩
    · refine ⟨by omega, some (rAr R t lo), fun v q => by cases q; omega, fun m hm => ?_, fun last f l hl => ?_⟩
      · obtain ⟨m, rfl⟩ : ∃ p, m = p + 1 := ⟨m - 1, by omega⟩
        show (if _ then _ else _) = _
        rw [if_neg (by omega), if_pos k]
        simp (disch := omega) only [fX20_of, k, el28, e, i3_l, if_true]
      · rw [show (lo + 1 - lo).toNat = 1 by omega]
        exact rnn_x (by omega) (by omega) (by rw [if_pos h0]) (by omega)
    · have hs := hst (rOp R t lo) h0.1 h0.2
      refine ⟨by omega, some (st (rOp R t lo)), fun v q => by cases q; exact hs.2, fun m hm => ?_, fun last f l hl => ?_⟩
      · obtain ⟨m, rfl⟩ : ∃ p, m = p + 1 := ⟨m - 1, by omega⟩
        show (if _ then _ else _) = _
        rw [if_neg (by omega), if_neg (by omega), if_pos k]
        have h1 := hs.1
        have h2 := hs.2
        simp only [fX21_of, k, el29, if_true]
        have hc : rOp R t lo = 1 ∨ rOp R t lo = 2 ∨ rOp R t lo = 3 ∨ rOp R t lo = 4 ∨ rOp R t lo = 5 ∨ rOp R t lo = 6 ∨ rOp R t lo = 7 := by omega
        have key : fX3_field (i3 (rOp R t lo - 1)) σ = some (i6 (st (rOp R t lo))) := by
          unfold fX3_field
          rcases hc with q | q | q | q | q | q | q <;> (rw [q] at h1 h2 ⊢; simp (disch := omega) only [i3_lit, i3_eq, and_self, and_true, true_and, and_false, false_and, if_true, if_false, not_true_eq_false, not_false_eq_true, ne_eq, true_or, or_true, or_false, false_or, or_self, reduceCtorEq, Nat.reduceEqDiff, Int.reduceEq, Int.reduceLT, Int.reduceLE, Int.reduceAdd, Int.reduceSub, Int.reduceNeg, ↓reduceIte, if_n, i3_ite]; exact (congrArg (fun x => some (Int32.toInt64 x)) h1).trans (by rw [i3_l (by omega)]))
        rw [e, key, obs]
      · rw [show (lo + 1 - lo).toNat = 1 by omega]
        exact rnn_x (by omega) (by omega) (by rw [if_neg (by omega)]) hs.2
    · obtain ⟨hl1, o, hb, hr, hc⟩ := ih a lo (hi - 1) ha
      refine ⟨by omega, o.map (fun v => -v), ?_, fun m hm => ?_, fun last f l hl => ?_⟩
      · intro v q
        cases o with
        | none => cases q
        | some w =>
          cases q
          have := hb w rfl
          show -1000000 ≤ -w ∧ -w ≤ 1000000
          omega
      · obtain ⟨m, rfl⟩ : ∃ p, m = p + 1 := ⟨m - 1, by omega⟩
        show (if _ then _ else _) = _
        rw [if_pos k]
        unfold fX19_of
        rw [if_pos (by rw [k]; rfl), e]
        dsimp only
        rw [hr m (by omega), obs]
        cases o with
        | none => rfl
        | some w => dsimp only [oS, Option.map]; rw [i6_neg]
      · have := hc last (f + 1) l (by omega)
        rw [show f + 1 + (hi - 1 - lo).toNat = f + (hi - lo).toNat by omega] at this
        rw [this]
        cases o with
        | none => rfl
        | some w =>
          dsimp only [Option.map]
          rw [rnn_1 (by omega) (by omega), if_pos h15, show hi - 1 + 1 = hi by omega]
    · obtain ⟨hl1, o1, hb1, hr1, hc1⟩ := ih a lo mid ra
      obtain ⟨hl2, o2, hb2, hr2, hc2⟩ := ih b mid (hi - 1) rb
      cases o1 with
      | none =>
        refine ⟨by omega, none, fun v q => by (cases q), fun m hm => ?_, fun last f l hl => ?_⟩
        · obtain ⟨m, rfl⟩ : ∃ p, m = p + 1 := ⟨m - 1, by omega⟩
          show (if _ then _ else _) = _
          rw [if_neg (by omega), if_neg (by omega), if_neg (by omega), if_pos k]
          unfold fX22_of
          rw [if_pos (by rw [k]; rfl), ea]
          dsimp only
          rw [hr1 m (by omega), obs]
        · have := hc1 last (f + (hi - mid).toNat) l (by omega)
          rw [show f + (hi - mid).toNat + (mid - lo).toNat = f + (hi - lo).toNat by omega] at this
          exact this
      | some x =>
        have hx := hb1 x rfl
        cases o2 with
        | none =>
          refine ⟨by omega, none, fun v q => by (cases q), fun m hm => ?_, fun last f l hl => ?_⟩
          · obtain ⟨m, rfl⟩ : ∃ p, m = p + 1 := ⟨m - 1, by omega⟩
            show (if _ then _ else _) = _
            rw [if_neg (by omega), if_neg (by omega), if_neg (by omega), if_pos k]
            unfold fX22_of
            rw [if_pos (by rw [k]; rfl), ea]
            dsimp only
            rw [hr1 m (by omega), obs]
            dsimp only [oS]
            rw [if_pos (by rw [k]; rfl), eb]
            dsimp only
            rw [hr2 m (by omega), obs]
          · have h1 := hc1 last (f + (hi - mid).toNat) l (by omega)
            rw [show f + (hi - mid).toNat + (mid - lo).toNat = f + (hi - lo).toNat by omega] at h1
            have h2 := hc2 last (f + 1) (x :: l) (by omega)
            rw [show f + 1 + (hi - 1 - mid).toNat = f + (hi - mid).toNat by omega] at h2
            exact h1.trans h2
        | some y =>
          have hy := hb2 y rfl
          have code : ∀ (last : Int) (f : Nat) (l : List Int), hi ≤ last → rnn R t st last (f + (hi - lo).toNat) lo l = match rck (rOp R t (hi - 1)) x y with
            | some z => if -1000000 ≤ z ∧ z ≤ 1000000 then rnn R t st last f (hi - 1 + 1) (z :: l) else some none
            | none => some none := by
            intro last f l hl
            have h1 := hc1 last (f + (hi - mid).toNat) l (by omega)
            rw [show f + (hi - mid).toNat + (mid - lo).toNat = f + (hi - lo).toNat by omega] at h1
            have h2 := hc2 last (f + 1) (x :: l) (by omega)
            rw [show f + 1 + (hi - 1 - mid).toNat = f + (hi - mid).toNat by omega] at h2
            have h3 := h1.trans h2
            dsimp only at h3
            rw [h3, rnn_2 (by omega) (by omega)]
          have comp : ∀ m, n + 1 ≤ m → rO m s 31 σ = (if gi σ s 0 ≠ 47 then fX22_of_J40 (rO (m - 1)) s 31 (i6 x) (i6 y) σ else if i6 y ≠ 0 then fX22_of_J40 (rO (m - 1)) s 31 (i6 x) (i6 y) σ else some (.inr (2, 32))) := by
            intro m hm
            obtain ⟨m, rfl⟩ : ∃ p, m = p + 1 := ⟨m - 1, by omega⟩
            show (if _ then _ else _) = _
            rw [if_neg (by omega), if_neg (by omega), if_neg (by omega), if_pos k]
            unfold fX22_of
            rw [if_pos (by rw [k]; rfl), ea]
            dsimp only
            rw [hr1 m (by omega), obs]
            dsimp only [oS]
            rw [if_pos (by rw [k]; rfl), eb]
            dsimp only
            rw [hr2 m (by omega), obs]
            dsimp only [oS]
            rw [if_pos (by rw [k]; rfl)]
            rfl
          have join : ∀ g : Int, gi σ s 0 = i3 g → ((rOp R t (hi - 1) = 8 ∧ g = 43) ∨ (rOp R t (hi - 1) = 9 ∧ g = 45) ∨ (rOp R t (hi - 1) = 10 ∧ g = 42) ∨ (rOp R t (hi - 1) = 11 ∧ g = 47)) → lo < hi ∧ ∃ o : Option Int, (∀ v, o = some v → -1000000 ≤ v ∧ v ≤ 1000000) ∧ (∀ m, n + 1 ≤ m → rO m s 31 σ = some (oS o)) ∧ ∀ (last : Int) (f : Nat) (l : List Int), hi ≤ last → rnn R t st last (f + (hi - lo).toNat) lo l = match o with | some v => rnn R t st last f hi (v :: l) | none => some none := by
            intro g eg hg
            by_cases z : g = 47 ∧ y = 0
            · refine ⟨by omega, none, fun v q => by (cases q), fun m hm => ?_, fun last f l hl => ?_⟩
              · rw [comp m hm, eg, z.1, z.2]
                rfl
              · rw [code last f l hl, show rOp R t (hi - 1) = 11 by omega, z.2]
                rfl
            · obtain ⟨o, ho, -, hm⟩ := x22_two (σ := σ) (a := x) (b := y) (op := rOp R t (hi - 1)) (rO 0) k eg hx hy (by omega)
              refine ⟨by omega, o, ho, fun m hm' => ?_, fun last f l hl => ?_⟩
              · obtain ⟨o', -, hq, hm2⟩ := x22_two (σ := σ) (a := x) (b := y) (op := rOp R t (hi - 1)) (rO (m - 1)) k eg hx hy (by omega)
                rw [hm] at hm2
                rw [comp m hm', hm2, hq, eg]
                by_cases z1 : g = 47
                · rw [if_neg (by rw [z1]; exact fun q => q rfl), if_pos (by rw [i6_lit, ne_eq, i6_eq (by omega) (by omega)]; omega)]
                · rw [if_pos (by rw [i3_lit, ne_eq, i3_eq (by omega) (by omega)]; omega)]
              · rw [code last f l hl, ← hm, show hi - 1 + 1 = hi by omega]
                cases rck (rOp R t (hi - 1)) x y with
                | none => rfl
                | some w =>
                  dsimp only
                  by_cases z : -1000000 ≤ w ∧ w ≤ 1000000
                  · rw [if_pos z, if_pos z]
                  · rw [if_neg z, if_neg z]
          rcases hop with ⟨q, e⟩ | ⟨q, e⟩ | ⟨q, e⟩ | ⟨q, e⟩
          · exact join 43 e (Or.inl ⟨q, rfl⟩)
          · exact join 45 e (Or.inr (Or.inl ⟨q, rfl⟩))
          · exact join 42 e (Or.inr (Or.inr (Or.inl ⟨q, rfl⟩)))
          · exact join 47 e (Or.inr (Or.inr (Or.inr ⟨q, rfl⟩)))
abbrev oT (o : Option Int) : Int32 ⊕ (Nat × Nat) := match o with
  | some v => .inl (i3 v)
  | none => .inr (2, 32)
theorem elT {k : Nat} (h : k = 31 ∨ k = 32 ∨ k = 33) : ([31, 32, 33].elem k = true) = True := by
  rcases h with rfl | rfl | rfl <;> exact eq_true rfl
theorem rpT_k {n s : Nat} {lo hi : Int} (h : RepT R A M Im σ t n s lo hi) : kk σ s = 31 ∨ kk σ s = 32 ∨ kk σ s = 33 := by
  revert s lo hi
  induction n with
  | zero => intro s lo hi h; exact h.elim
  | succ n ih =>
    rintro s lo hi ⟨-, h⟩
    rcases h with h | h | h | h
    · exact Or.inl h.1
    · exact Or.inr (Or.inl h.1)
    · exact ih h.1
    · exact Or.inr (Or.inr h.1)
/-- what the evaluation of a test does, on both sides -/
def EvT (R : Int → Int) (t : Int) (st : Int → Int) (σ : Sg) (n s : Nat) (lo hi : Int) (o : Option Int) : Prop := lo < hi ∧ (∀ v, o = some v → v = 0 ∨ v = 1) ∧ (∀ m, n ≤ m → rI m s 31 σ = some (oT o)) ∧ ∀ (last : Int) (f : Nat) (l : List Int), hi ≤ last → ∃ f', f ≤ f' ∧ rnn R t st last (f + (hi - lo).toNat) lo l = match o with | some v => rnn R t st last f' hi (v :: l) | none => some none
/-- jumps over what comes no more -/
theorem jmp {P : Int → Int} {m oc q : Int} (hq : (oc = 18 ∧ q = 0) ∨ (oc = 19 ∧ q = 1)) (hP : ∀ i : Int, 1 ≤ i → i < m → rOp R t (P i) = oc ∧ rAr R t (P i) = P (i + 1) ∧ P i < P (i + 1)) {last : Int} (hl : P m ≤ last) : ∀ (d : Nat) (i : Int), i + d = m → 1 ≤ i → P i + d ≤ P m ∧ ∀ (f : Nat) (l : List Int), ∃ f', f ≤ f' ∧ rnn R t st last (f + (P m - P i).toNat) (P i) (q :: l) = rnn R t st last f' (P m) (q :: l) := by
  intro d
  induction d with
  | zero =>
    intro i e _
    have : i = m := by omega
    subst this
    exact ⟨by omega, fun f l => ⟨f, by omega, by simp⟩⟩
  | succ d ih =>
    intro i e h1
    obtain ⟨a, b, c⟩ := hP i h1 (by omega)
    obtain ⟨p1, p2⟩ := ih (i + 1) (by omega) (by omega)
    refine ⟨by omega, fun f l => ?_⟩
    obtain ⟨f', g1, g2⟩ := p2 (f + ((P (i + 1) - P i).toNat - 1)) l
    refine ⟨f', by omega, ?_⟩
    rw [← g2, show f + (P m - P i).toNat = (f + ((P (i + 1) - P i).toNat - 1) + (P m - P (i + 1)).toNat) + 1 by omega, rnn_1 (by omega) (by omega), if_neg (by omega), if_neg (by omega), if_pos (by rcases hq with ⟨q1, q2⟩ | ⟨q1, q2⟩ <;> rw [a, q1, q2] <;> rfl), if_pos (by omega), b]
theorem lst (Q : Int → Prop) : ∀ k : Nat, (∀ i : Int, 0 ≤ i → i < k → Q i) ∨ ∃ j : Nat, j < k ∧ ¬ Q j ∧ ∀ i : Int, 0 ≤ i → i < j → Q i := by
  intro k
  induction k with
  | zero => exact Or.inl fun i a b => by omega
  | succ k ih =>
    rcases ih with h | ⟨j, a, b, c⟩
    · by_cases q : Q k
      · exact Or.inl fun i a b => by
          by_cases e : i = k
          · rw [e]; exact q
          · exact h i a (by omega)
      · exact Or.inr ⟨k, by omega, q, h⟩
    · exact Or.inr ⟨j, by omega, b, c⟩
theorem evSev {n s l : Nat} {m q oc lo hi : Int} {P : Int → Int} (hk : kk σ s = 33) (el : rf σ s 1 = some l) (hl : Lsc σ A l m (M l)) (hm : 2 ≤ m) (e : gi σ s 0 = i3 q) (hq : (oc = 18 ∧ q = 1) ∨ (oc = 19 ∧ q = 0)) (hP : P m = hi) (H : ∀ i : Int, 0 ≤ i → i < m → (kk σ (A l i) = 31 ∨ kk σ (A l i) = 32 ∨ kk σ (A l i) = 33) ∧ ∃ o, EvT R t st σ n (A l i) (if i = 0 then lo else P i + 1) (P (i + 1)) o) (hop : ∀ i : Int, 1 ≤ i → i < m → rOp R t (P i) = oc ∧ rAr R t (P i) = P (i + 1)) : ∃ o, EvT R t st σ (n + 1) s lo hi o := by
  have hm2 : m ≤ 1000 := hl.2.2.2.1
  obtain ⟨o, ho⟩ : ∃ o : Int → Option Int, ∀ i : Int, 0 ≤ i → i < m → EvT R t st σ n (A l i) (if i = 0 then lo else P i + 1) (P (i + 1)) (o i) := by
    refine ⟨fun i => if h : 0 ≤ i ∧ i < m then Classical.choose (H i h.1 h.2).2 else none, fun i a b => ?_⟩
    dsimp only
    rw [dif_pos ⟨a, b⟩]
    exact Classical.choose_spec (H i a b).2
  have hlt : ∀ i : Int, 1 ≤ i → i < m → P i + 1 < P (i + 1) := fun i a b => by
    have := (ho i (by omega) b).1
    rw [if_neg (by omega)] at this
    exact this
  have hmono : ∀ i : Int, 1 ≤ i → i ≤ m → P i ≤ hi := by
    intro i a b
    have h1 := (jmp (R := R) (t := t) (st := st) (P := P) (m := m) (oc := oc) (q := 1 - q) (last := P m) (by omega) (fun i a b => ⟨(hop i a b).1, (hop i a b).2, by have := hlt i a b; omega⟩) (Int.le_refl _) (m - i).toNat i (by omega) a).1
    omega
  have hlo : lo < P 1 := by
    have := (ho 0 (by omega) (by omega)).1
    rw [if_pos rfl] at this
    exact this
  have hlohi : lo < hi := by have := hmono 1 (by omega) (by omega); omega
  have jump : ∀ (i : Int), 1 ≤ i → i ≤ m → ∀ (last : Int) (f : Nat) (l : List Int), hi ≤ last → ∃ f', f ≤ f' ∧ rnn R t st last (f + (hi - P i).toNat) (P i) ((1 - q) :: l) = rnn R t st last f' hi ((1 - q) :: l) := by
    intro i a b last f l hl
    have h1 := (jmp (R := R) (t := t) (st := st) (P := P) (m := m) (oc := oc) (q := 1 - q) (last := last) (by omega) (fun i a b => ⟨(hop i a b).1, (hop i a b).2, by have := hlt i a b; omega⟩) (by omega) (m - i).toNat i (by omega) a).2 f l
    rw [hP] at h1
    exact h1
  have pop : ∀ (i : Int), 1 ≤ i → i < m → ∀ (last : Int) (f : Nat) (l : List Int), hi ≤ last → rnn R t st last (f + 1) (P i) (q :: l) = rnn R t st last f (P i + 1) l := by
    intro i a b last f l hl
    have h1 := (hop i a b).1
    have h2 := hmono (i + 1) (by omega) (by omega)
    have h3 := hlt i a b
    rw [rnn_1 (by omega) (by omega), if_neg (by omega), if_neg (by omega), if_neg (by rcases hq with ⟨q1, q2⟩ | ⟨q1, q2⟩ <;> rw [h1, q1, q2] <;> decide)]
  have hK : ∀ k : Nat, 1 ≤ k → (k : Int) ≤ m → (∀ i : Int, 0 ≤ i → i < k → o i = some q) → ∀ (last : Int) (f : Nat) (l : List Int), hi ≤ last → ∃ f', f + (hi - P k).toNat ≤ f' ∧ rnn R t st last (f + (hi - lo).toNat) lo l = rnn R t st last f' (P k) (q :: l) := by
    intro k
    induction k with
    | zero => intro h; omega
    | succ k ih =>
      intro h1 h2 h3 last f l hl
      by_cases k0 : k = 0
      · subst k0
        obtain ⟨-, -, -, hc⟩ := ho 0 (by omega) (by omega)
        rw [if_pos rfl, h3 0 (by omega) (by omega)] at hc
        have hm1 := hmono 1 (by omega) (by omega)
        obtain ⟨f', g1, g2⟩ := hc last (f + (hi - P 1).toNat) l (by show P 1 ≤ last; omega)
        refine ⟨f', g1, ?_⟩
        rw [show f + (hi - lo).toNat = f + (hi - P 1).toNat + (P (0 + 1) - lo).toNat by show _ = f + (hi - P 1).toNat + (P 1 - lo).toNat; omega]
        exact g2
      · obtain ⟨f', g1, g2⟩ := ih (by omega) (by omega) (fun i a b => h3 i a (by omega)) last f l hl
        obtain ⟨-, -, -, hc⟩ := ho k (by omega) (by omega)
        rw [if_neg (by omega), h3 k (by omega) (by omega)] at hc
        have q1 := hmono (k + 1) (by omega) (by omega)
        have q2 := hlt k (by omega) (by omega)
        obtain ⟨f2, e1, e2⟩ := hc last (f' - 1 - (P (k + 1) - (P k + 1)).toNat) l (by omega)
        refine ⟨f2, by rw [show ((k + 1 : Nat) : Int) = k + 1 by omega]; omega, ?_⟩
        rw [g2, show f' = f' - 1 + 1 by omega, pop k (by omega) (by omega) last _ l hl, show f' - 1 = f' - 1 - (P (k + 1) - (P k + 1)).toNat + (P (k + 1) - (P k + 1)).toNat by omega]
        exact e2
  rcases lst (fun i => o i = some q) m.toNat with h | ⟨j, j1, j2, j3⟩
  · refine ⟨some q, hlohi, fun v z => by cases z; omega, fun p hp => ?_, fun last f l' hla => ?_⟩
    · obtain ⟨p, rfl⟩ : ∃ w, p = w + 1 := ⟨p - 1, by omega⟩
      show (if _ then _ else _) = _
      rw [if_neg (by omega), if_neg (by omega), if_pos hk]
      unfold fX26_is
      refine ev_is (rn_ev (rn_lp0 (fun k s => s = i3 k ∧ (k : Int) ≤ m) 1001 (by omega) ⟨rfl, by omega⟩ ?_))
      rintro k s' rec ⟨rfl, hkm⟩
      unfold fX26_is_L2
      rw [if_pos (by rw [hk]; rfl), el]
      dsimp only
      rw [if_pos hl.1, xJ_size hl, obs]
      by_cases g : m ≤ k
      · rw [if_pos (by rw [i3_le (by omega) (by omega)]; omega), if_pos (by rw [hk]; rfl), e, if_pos (by rcases hq with ⟨_, rfl⟩ | ⟨_, rfl⟩ <;> rfl)]
        exact Or.inr ⟨_, rfl, rfl⟩
      · obtain ⟨-, -, hr, -⟩ := ho k (by omega) (by omega)
        rw [if_neg (by rw [i3_le (by omega) (by omega)]; omega), if_pos (by rw [hk]; rfl), if_pos hl.1, xJ_get hl (by omega), obs, if_pos (by rw [elT (H k (by omega) (by omega)).1]; trivial), hr p (by omega), obs, h k (by omega) (by omega)]
        dsimp only [oT]
        rw [if_pos (by rw [hk]; rfl), e, if_pos rfl]
        exact Or.inl ⟨_, rfl, by omega, i3s, by omega⟩
    · obtain ⟨f', g1, g2⟩ := hK m.toNat (by omega) (by omega) h last f l' hla
      refine ⟨f', by omega, ?_⟩
      rw [g2, show ((m.toNat : Nat) : Int) = m by omega, hP]
  · have hj := ho j (by omega) (by omega)
    refine ⟨o j, hlohi, hj.2.1, fun p hp => ?_, fun last f l' hla => ?_⟩
    · obtain ⟨p, rfl⟩ : ∃ w, p = w + 1 := ⟨p - 1, by omega⟩
      show (if _ then _ else _) = _
      rw [if_neg (by omega), if_neg (by omega), if_pos hk]
      unfold fX26_is
      refine ev_is (rn_ev (rn_lp0 (fun k s => s = i3 k ∧ k ≤ j) 1001 (by omega) ⟨rfl, by omega⟩ ?_))
      rintro k s' rec ⟨rfl, hkm⟩
      unfold fX26_is_L2
      obtain ⟨-, hv, hr, -⟩ := ho k (by omega) (by omega)
      rw [if_pos (by rw [hk]; rfl), el]
      dsimp only
      rw [if_pos hl.1, xJ_size hl, obs]
      rw [if_neg (by rw [i3_le (by omega) (by omega)]; omega), if_pos (by rw [hk]; rfl), if_pos hl.1, xJ_get hl (by omega), obs, if_pos (by rw [elT (H k (by omega) (by omega)).1]; trivial), hr p (by omega), obs]
      by_cases g : k = j
      · subst g
        cases eo : o k with
        | none => exact Or.inr ⟨_, rfl, rfl⟩
        | some w =>
          have hw := hv w eo
          have hwq : w ≠ q := fun z => j2 (by rw [eo, z])
          dsimp only [oT]
          rw [if_pos (by rw [hk]; rfl), e, if_neg (by rw [i3_eq (by omega) (by omega)]; exact hwq), if_pos (by rw [hk]; rfl)]
          refine Or.inr ⟨_, rfl, ?_⟩
          rcases hq with ⟨_, rfl⟩ | ⟨_, rfl⟩
          · rw [show w = 0 by omega]; rfl
          · rw [show w = 1 by omega]; rfl
      · rw [j3 k (by omega) (by omega)]
        dsimp only [oT]
        rw [if_pos (by rw [hk]; rfl), e, if_pos rfl]
        exact Or.inl ⟨_, rfl, by omega, i3s, by omega⟩
    · have fin : ∀ f1, f + (hi - P (j + 1)).toNat ≤ f1 → rnn R t st last (f + (hi - lo).toNat) lo l' = (match o j with | some v => rnn R t st last f1 (P (j + 1)) (v :: l') | none => some none) → ∃ f', f ≤ f' ∧ rnn R t st last (f + (hi - lo).toNat) lo l' = match o j with | some v => rnn R t st last f' hi (v :: l') | none => some none := by
        intro f1 h1 h2
        cases eo : o j with
        | none => exact ⟨f, by omega, by rw [h2, eo]⟩
        | some w =>
          have hw := hj.2.1 w eo
          have hwq : w = 1 - q := by
            have : w ≠ q := fun z => j2 (by rw [eo, z])
            omega
          obtain ⟨f', g1, g2⟩ := jump (j + 1) (by omega) (by omega) last (f1 - (hi - P (j + 1)).toNat) l' hla
          refine ⟨f', by omega, ?_⟩
          rw [h2, eo]
          dsimp only
          rw [hwq, ← g2, show f1 - (hi - P (j + 1)).toNat + (hi - P (j + 1)).toNat = f1 by omega]
      have q1 := hmono (j + 1) (by omega) (by omega)
      by_cases k0 : j = 0
      · subst k0
        obtain ⟨-, -, -, hc⟩ := hj
        rw [if_pos (show ((0 : Nat) : Int) = 0 from rfl)] at hc
        obtain ⟨f', g1, g2⟩ := hc last (f + (hi - P ((0 : Nat) + 1)).toNat) l' (by omega)
        refine fin f' g1 ?_
        rw [← g2]
        have e01 : P (((0 : Nat) : Int) + 1) = P 1 := rfl
        congr 1
        omega
      · obtain ⟨f', g1, g2⟩ := hK j (by omega) (by omega) j3 last f l' hla
        obtain ⟨-, -, -, hc⟩ := hj
        rw [if_neg (by omega)] at hc
        have q2 := hlt j (by omega) (by omega)
        obtain ⟨f2, e1, e2⟩ := hc last (f' - 1 - (P (j + 1) - (P j + 1)).toNat) l' (by omega)
        refine fin f2 (by omega) ?_
        rw [g2, show f' = f' - 1 + 1 by omega, pop j (by omega) (by omega) last _ l' hla, show f' - 1 = f' - 1 - (P (j + 1) - (P j + 1)).toNat + (P (j + 1) - (P j + 1)).toNat by omega]
        exact e2
theorem evT (hst : StC st σ) : ∀ (n s : Nat) (lo hi : Int), RepT R A M Im σ t n s lo hi → ∃ o, EvT R t st σ n s lo hi o := by
  intro n
  induction n with
  | zero => intro s lo hi h; exact h.elim
  | succ n ih =>
    rintro s lo hi ⟨-, h⟩
    rcases h with ⟨k, a, b, mid, ea, eb, ra, rb, hop⟩ | ⟨k, a, e, ha, h17⟩ | ⟨ha, h17, h17'⟩ | ⟨k, l, m, el, -, -, hl, hm, hq⟩
    · obtain ⟨hl1, o1, hb1, hr1, hc1⟩ := evS hst 80 a lo mid ra
      obtain ⟨hl2, o2, hb2, hr2, hc2⟩ := evS hst 80 b mid (hi - 1) rb
      cases o1 with
      | none =>
        refine ⟨none, by omega, fun v q => by (cases q), fun m hm => ?_, fun last f l hl => ⟨f, by omega, ?_⟩⟩
        · obtain ⟨m, rfl⟩ : ∃ p, m = p + 1 := ⟨m - 1, by omega⟩
          show (if _ then _ else _) = _
          rw [if_pos k]
          unfold fX24_is
          rw [if_pos (by rw [k]; rfl), ea]
          dsimp only
          rw [hr1 80 (by omega), obs]
        · have := hc1 last (f + (hi - mid).toNat) l (by omega)
          rw [show f + (hi - mid).toNat + (mid - lo).toNat = f + (hi - lo).toNat by omega] at this
          exact this
      | some x =>
        have hx := hb1 x rfl
        cases o2 with
        | none =>
          refine ⟨none, by omega, fun v q => by (cases q), fun m hm => ?_, fun last f l hl => ⟨f, by omega, ?_⟩⟩
          · obtain ⟨m, rfl⟩ : ∃ p, m = p + 1 := ⟨m - 1, by omega⟩
            show (if _ then _ else _) = _
            rw [if_pos k]
            unfold fX24_is
            rw [if_pos (by rw [k]; rfl), ea]
            dsimp only
            rw [hr1 80 (by omega), obs]
            dsimp only [oS]
            rw [if_pos (by rw [k]; rfl), eb]
            dsimp only
            rw [hr2 80 (by omega), obs]
          · have h1 := hc1 last (f + (hi - mid).toNat) l (by omega)
            rw [show f + (hi - mid).toNat + (mid - lo).toNat = f + (hi - lo).toNat by omega] at h1
            have h2 := hc2 last (f + 1) (x :: l) (by omega)
            rw [show f + 1 + (hi - 1 - mid).toNat = f + (hi - mid).toNat by omega] at h2
            exact h1.trans h2
        | some y =>
          have hy := hb2 y rfl
          have code : ∀ (last : Int) (f : Nat) (l : List Int), hi ≤ last → rnn R t st last (f + (hi - lo).toNat) lo l = match rck (rOp R t (hi - 1)) x y with
            | some z => if -1000000 ≤ z ∧ z ≤ 1000000 then rnn R t st last f (hi - 1 + 1) (z :: l) else some none
            | none => some none := by
            intro last f l hl
            have h1 := hc1 last (f + (hi - mid).toNat) l (by omega)
            rw [show f + (hi - mid).toNat + (mid - lo).toNat = f + (hi - lo).toNat by omega] at h1
            have h2 := hc2 last (f + 1) (x :: l) (by omega)
            rw [show f + 1 + (hi - 1 - mid).toNat = f + (hi - mid).toNat by omega] at h2
            have h3 := h1.trans h2
            dsimp only at h3
            rw [h3, rnn_2 (by omega) (by omega)]
          have comp : ∀ m, n + 1 ≤ m → rI m s 31 σ = (if gi σ s 0 ≠ 60 then some (.inl (if gi σ s 0 ≠ 62 then (if i6 x ≠ i6 y then 0 else 1) else (if i6 x ≤ i6 y then 0 else 1))) else some (.inl (if i6 y ≤ i6 x then 0 else 1))) := by
            intro m hm
            obtain ⟨m, rfl⟩ : ∃ p, m = p + 1 := ⟨m - 1, by omega⟩
            show (if _ then _ else _) = _
            rw [if_pos k]
            unfold fX24_is
            rw [if_pos (by rw [k]; rfl), ea]
            dsimp only
            rw [hr1 80 (by omega), obs]
            dsimp only [oS]
            rw [if_pos (by rw [k]; rfl), eb]
            dsimp only
            rw [hr2 80 (by omega), obs]
            dsimp only [oS]
            rw [if_pos (by rw [k]; rfl)]
            by_cases z : gi σ s 0 ≠ 60
            · rw [if_pos z, if_pos z, if_pos (by rw [k]; rfl)]
            · rw [if_neg z, if_neg z]
          have join : ∀ v : Int, (v = 0 ∨ v = 1) → rck (rOp R t (hi - 1)) x y = some v → (∀ m, n + 1 ≤ m → rI m s 31 σ = some (.inl (i3 v))) → ∃ o, EvT R t st σ (n + 1) s lo hi o := by
            intro v hv hr hmv
            refine ⟨some v, by omega, fun w q => by cases q; exact hv, hmv, fun last f l hl => ⟨f, by omega, ?_⟩⟩
            rw [code last f l hl, hr]
            dsimp only
            rw [if_pos (by omega), show hi - 1 + 1 = hi by omega]
          rcases hop with ⟨q, e⟩ | ⟨q, e⟩ | ⟨q, e⟩
          · refine join (if x < y then 1 else 0) (by split <;> simp) (by rw [q]; rfl) (fun m hm => ?_)
            rw [comp m hm, e, if_neg (fun z => z rfl)]
            simp (disch := omega) only [i6_le, i3_lit, i3_ite]
            congr 3
            split <;> split <;> omega
          · refine join (if y < x then 1 else 0) (by split <;> simp) (by rw [q]; rfl) (fun m hm => ?_)
            rw [comp m hm, e, if_pos (by decide), if_neg (fun z => z rfl)]
            simp (disch := omega) only [i6_le, i3_lit, i3_ite]
            congr 3
            split <;> split <;> omega
          · refine join (if x = y then 1 else 0) (by split <;> simp) (by rw [q]; rfl) (fun m hm => ?_)
            rw [comp m hm, e, if_pos (by decide), if_pos (by decide)]
            simp (disch := omega) only [i6_eq, i3_lit, i3_ite, ne_eq, if_n]
    · obtain ⟨o, hl1, hb, hr, hc⟩ := ih a lo (hi - 1) ha
      refine ⟨o.map (fun v => 1 - v), by omega, ?_, fun m hm => ?_, fun last f l hl => ?_⟩
      · intro v q
        cases o with
        | none => cases q
        | some w =>
          cases q
          have := hb w rfl
          show 1 - w = 0 ∨ 1 - w = 1
          omega
      · obtain ⟨m, rfl⟩ : ∃ p, m = p + 1 := ⟨m - 1, by omega⟩
        show (if _ then _ else _) = _
        rw [if_neg (by omega), if_pos k]
        unfold fX25_is
        rw [if_pos (by rw [k]; rfl), e]
        dsimp only
        rw [hr m (by omega), obs]
        cases o with
        | none => rfl
        | some w =>
          rcases hb w rfl with rfl | rfl <;> rfl
      · obtain ⟨f', g1, g2⟩ := hc last (f + 1) l (by omega)
        rw [show f + 1 + (hi - 1 - lo).toNat = f + (hi - lo).toNat by omega] at g2
        refine ⟨f' - 1, by omega, ?_⟩
        rw [g2]
        cases o with
        | none => rfl
        | some w =>
          dsimp only [Option.map]
          rw [show f' = f' - 1 + 1 by omega, rnn_1 (by omega) (by omega), if_neg (by omega), if_pos h17, if_pos (hb w rfl), show hi - 1 + 1 = hi by omega]
          rfl
    · obtain ⟨o, hl1, hb, hr, hc⟩ := ih s lo (hi - 2) ha
      refine ⟨o, by omega, hb, fun m hm => hr m (by omega), fun last f l hl => ?_⟩
      obtain ⟨f', g1, g2⟩ := hc last (f + 2) l (by omega)
      rw [show f + 2 + (hi - 2 - lo).toNat = f + (hi - lo).toNat by omega] at g2
      refine ⟨f' - 2, by omega, ?_⟩
      rw [g2]
      cases o with
      | none => rfl
      | some w =>
        dsimp only
        have hw := hb w rfl
        rw [show f' = (f' - 2 + 1) + 1 by omega, rnn_1 (by omega) (by omega), if_neg (by omega), if_pos h17', if_pos hw, show hi - 2 + 1 = hi - 1 by omega, rnn_1 (by omega) (by omega), if_neg (by omega), if_pos h17, if_pos (by omega), show hi - 1 + 1 = hi by omega, show 1 - (1 - w) = w by omega]
        rfl
    · have main : ∀ q oc : Int, (oc = 18 ∧ q = 1) ∨ (oc = 19 ∧ q = 0) → gi σ s 0 = i3 q → (∃ P : Int → Int, P m = hi ∧ RepT R A M Im σ t n (A l 0) lo (P 1) ∧ ∀ i : Int, 1 ≤ i → i < m → rOp R t (P i) = oc ∧ rAr R t (P i) = P (i + 1) ∧ RepT R A M Im σ t n (A l i) (P i + 1) (P (i + 1))) → ∃ o, EvT R t st σ (n + 1) s lo hi o := by
        rintro q oc hqo e ⟨P, p1, p2, p3⟩
        refine evSev k el hl hm e hqo p1 (fun i a b => ?_) (fun i a b => ⟨(p3 i a b).1, (p3 i a b).2.1⟩)
        by_cases z : i = 0
        · subst z
          rw [if_pos rfl]
          exact ⟨rpT_k p2, ih _ _ _ p2⟩
        · rw [if_neg z]
          have := (p3 i (by omega) b).2.2
          exact ⟨rpT_k this, ih _ _ _ this⟩
      rcases hq with ⟨e, h⟩ | ⟨e, h⟩
      · exact main 1 18 (Or.inl ⟨rfl, rfl⟩) e h
      · exact main 0 19 (Or.inr ⟨rfl, rfl⟩) e h
/-! the Model's run -/
def StM (st : Int → Int) (σ : Sg) : Prop := ∀ j : Int, 1 ≤ j → j ≤ 7 → gi σ 74 j.toNat = i3 (st j) ∧ -1000000 ≤ st j ∧ st j ≤ 1000000
/-- the pile: l, the last on top, at 0 .. -/
def Pil (l : List Int) (σ : Sg) : Prop := ∀ i : Nat, i < l.length → gl σ 75 i = i6 (l.reverse[i]?.getD 0) ∧ -1000000 ≤ l.reverse[i]?.getD 0 ∧ l.reverse[i]?.getD 0 ≤ 1000000
theorem pil_push {l : List Int} {x : Int} (h : Pil l σ) (hx : -1000000 ≤ x ∧ x ≤ 1000000) : Pil (x :: l) (wl σ 75 l.length (i6 x)) := by
  intro i hi
  rw [List.length_cons] at hi
  rw [p_lwl, List.reverse_cons]
  by_cases e : i = l.length
  · subst e
    rw [if_pos ⟨rfl, rfl⟩, List.getElem?_append_right (by simp)]
    simp
    omega
  · rw [if_neg (fun q => e q.2), List.getElem?_append_left (by simp; omega)]
    exact h i (by omega)
theorem pil_pop {l : List Int} {x : Int} (h : Pil (x :: l) σ) : Pil l σ ∧ gl σ 75 l.length = i6 x ∧ -1000000 ≤ x ∧ x ≤ 1000000 := by
  constructor
  · intro i hi
    have := h i (by rw [List.length_cons]; omega)
    rw [List.reverse_cons, List.getElem?_append_left (by simp; omega)] at this
    exact this
  · have := h l.length (by rw [List.length_cons]; omega)
    rw [List.reverse_cons, List.getElem?_append_right (by simp)] at this
    simpa using this
theorem x7_reckon {op a b : Int} (hop : 8 ≤ op ∧ op < 15) (ha : -1000000 ≤ a ∧ a ≤ 1000000) (hb : -1000000 ≤ b ∧ b ≤ 1000000) (h0 : gi σ 60 36 = i3 0) : ∃ x σ', fX7_reckon (i3 op) (i6 a) (i6 b) σ = some (i6 x, σ') ∧ Frm 60 [36] [] σ σ' ∧ (-1000000000000 ≤ x ∧ x ≤ 1000000000000) ∧ (gi σ' 60 36 = i3 0 ∧ rck op a b = some x ∨ gi σ' 60 36 = i3 1 ∧ rck op a b = none ∧ x = 0) := by
  have hm : -1000000000000 ≤ a * b ∧ a * b ≤ 1000000000000 := by
    have h1 : (a * b).natAbs ≤ 1000000 * 1000000 := by rw [Int.natAbs_mul]; exact Nat.mul_le_mul (by omega) (by omega)
    omega
  have hc : op = 8 ∨ op = 9 ∨ op = 10 ∨ op = 11 ∨ op = 12 ∨ op = 13 ∨ op = 14 := by omega
  rcases hc with rfl | rfl | rfl | rfl | rfl | rfl | rfl
  · exact ⟨a + b, σ, by simp (disch := omega) only [fX7_reckon, i3_lit, i3_eq, i6_add, and_self, and_true, true_and, and_false, false_and, if_true, if_false, not_true_eq_false, not_false_eq_true, ne_eq, true_or, or_true, or_false, false_or, or_self, reduceCtorEq, Nat.reduceEqDiff, Int.reduceEq, Int.reduceLT, Int.reduceLE, Int.reduceAdd, Int.reduceSub, Int.reduceNeg, ↓reduceIte, if_n, i3_ite], fr_refl, by omega, Or.inl ⟨h0, rfl⟩⟩
  · exact ⟨a - b, σ, by simp (disch := omega) only [fX7_reckon, i3_lit, i3_eq, i6_sub, and_self, and_true, true_and, and_false, false_and, if_true, if_false, not_true_eq_false, not_false_eq_true, ne_eq, true_or, or_true, or_false, false_or, or_self, reduceCtorEq, Nat.reduceEqDiff, Int.reduceEq, Int.reduceLT, Int.reduceLE, Int.reduceAdd, Int.reduceSub, Int.reduceNeg, ↓reduceIte, if_n, i3_ite], fr_refl, by omega, Or.inl ⟨h0, rfl⟩⟩
  · exact ⟨a * b, σ, by simp (disch := omega) only [fX7_reckon, i3_lit, i3_eq, i6_mul, and_self, and_true, true_and, and_false, false_and, if_true, if_false, not_true_eq_false, not_false_eq_true, ne_eq, true_or, or_true, or_false, false_or, or_self, reduceCtorEq, Nat.reduceEqDiff, Int.reduceEq, Int.reduceLT, Int.reduceLE, Int.reduceAdd, Int.reduceSub, Int.reduceNeg, ↓reduceIte, if_n, i3_ite], fr_refl, by omega, Or.inl ⟨h0, rfl⟩⟩
  · by_cases z : b = 0
    · subst z
      exact ⟨0, wi σ 60 36 (i3 1), by simp (disch := omega) only [fX7_reckon, i3_lit, i3_eq, i6_lit, i6_eq, and_self, and_true, true_and, and_false, false_and, if_true, if_false, not_true_eq_false, not_false_eq_true, ne_eq, true_or, or_true, or_false, false_or, or_self, reduceCtorEq, Nat.reduceEqDiff, Int.reduceEq, Int.reduceLT, Int.reduceLE, Int.reduceAdd, Int.reduceSub, Int.reduceNeg, ↓reduceIte, if_n, i3_ite], fr_wi fr_refl rfl, by omega, Or.inr ⟨rfl, rfl, rfl⟩⟩
    · have ht := tdiv_b ha z
      refine ⟨a.tdiv b, wi σ 60 36 (i3 0), ?_, fr_wi fr_refl rfl, by omega, Or.inl ⟨rfl, if_neg z⟩⟩
      simp (disch := omega) only [fX7_reckon, i3_lit, i3_eq, i6_lit, i6_eq, i6_tdiv, z, and_self, and_true, true_and, and_false, false_and, if_true, if_false, not_true_eq_false, not_false_eq_true, ne_eq, true_or, or_true, or_false, false_or, or_self, reduceCtorEq, Nat.reduceEqDiff, Int.reduceEq, Int.reduceLT, Int.reduceLE, Int.reduceAdd, Int.reduceSub, Int.reduceNeg, ↓reduceIte, if_n, i3_ite]
  · refine ⟨if a < b then 1 else 0, σ, ?_, fr_refl, by omega, Or.inl ⟨h0, rfl⟩⟩
    simp (disch := omega) only [fX7_reckon, i3_lit, i3_eq, i6_lit, i6_le, i6_ite, and_self, and_true, true_and, and_false, false_and, if_true, if_false, not_true_eq_false, not_false_eq_true, ne_eq, true_or, or_true, or_false, false_or, or_self, reduceCtorEq, Nat.reduceEqDiff, Int.reduceEq, Int.reduceLT, Int.reduceLE, Int.reduceAdd, Int.reduceSub, Int.reduceNeg, ↓reduceIte, if_n, i3_ite]
    congr 3
    split <;> split <;> omega
  · refine ⟨if b < a then 1 else 0, σ, ?_, fr_refl, by omega, Or.inl ⟨h0, rfl⟩⟩
    simp (disch := omega) only [fX7_reckon, i3_lit, i3_eq, i6_lit, i6_le, i6_ite, and_self, and_true, true_and, and_false, false_and, if_true, if_false, not_true_eq_false, not_false_eq_true, ne_eq, true_or, or_true, or_false, false_or, or_self, reduceCtorEq, Nat.reduceEqDiff, Int.reduceEq, Int.reduceLT, Int.reduceLE, Int.reduceAdd, Int.reduceSub, Int.reduceNeg, ↓reduceIte, if_n, i3_ite]
    congr 3
    split <;> split <;> omega
  · refine ⟨if a = b then 1 else 0, σ, ?_, fr_refl, by omega, Or.inl ⟨h0, rfl⟩⟩
    simp (disch := omega) only [fX7_reckon, i3_lit, i3_eq, i6_lit, i6_eq, i6_ite, and_self, and_true, true_and, and_false, false_and, if_true, if_false, not_true_eq_false, not_false_eq_true, ne_eq, true_or, or_true, or_false, false_or, or_self, reduceCtorEq, Nat.reduceEqDiff, Int.reduceEq, Int.reduceLT, Int.reduceLE, Int.reduceAdd, Int.reduceSub, Int.reduceNeg, ↓reduceIte, if_n, i3_ite]
theorem pil_fr {τ : Sg} {l : List Int} (h : Pil l σ) (f : ∀ i, gl τ 75 i = gl σ 75 i) : Pil l τ := fun i hi => by rw [f]; exact h i hi
theorem pil_set {l : List Int} {x y : Int} (h : Pil (x :: l) σ) (hy : -1000000 ≤ y ∧ y ≤ 1000000) : Pil (y :: l) (wl σ 75 l.length (i6 y)) := pil_push (pil_pop h).1 hy
theorem x7_run (hM : Mrw R σ) (v : Vld R) (ht : 0 ≤ t ∧ t < 20) (hs : StM st σ) {first last : Int} (hl : 0 ≤ first ∧ first ≤ last ∧ last ≤ 400) {F : Nat} (hF : F ≤ 1000) {r : Option Int} (hr : rnn R t st last F first [] = some r) : Ev (fX7_run (i3 t) (i3 first) (i3 last) σ) (fun τ => Frm 60 [36, 37] [75] σ τ ∧ gi τ 60 36 = i3 (if r = none then 1 else 0) ∧ ∀ w, r = some w → gl τ 60 37 = i6 w) := by
  refine rn_ev ?_
  unfold fX7_run
  refine rn_lp0 (fun i s => ∃ (k n : Int) (τ : Sg), s = (i3 n, i3 k, τ) ∧ Frm 60 [36, 37] [75] σ τ ∧ (0 ≤ k ∧ k ≤ 10000) ∧ (0 ≤ n ∧ n ≤ 1000) ∧ ((gi τ 60 36 = i3 0 ∧ ∃ l : List Int, n = l.length ∧ n ≤ k ∧ Pil l τ ∧ rnn R t st last (F - i) k l = some r) ∨ (gi τ 60 36 = i3 1 ∧ r = none))) (F + 1) (by omega) ⟨first, 0, _, rfl, fr_wi fr_refl rfl, by omega, by omega, Or.inl ⟨rfl, [], rfl, by omega, fun i hi => absurd hi (Nat.not_lt_zero i), hr⟩⟩ ?_
  rintro i s rec ⟨k, n, τ, rfl, hf, hk, hn, hc⟩
  unfold fX7_run_L11
  dsimp only
  rcases hc with ⟨h36, l, hnl, hnk, hp, hrn⟩ | ⟨h36, hrn⟩
  · obtain ⟨f, hf1⟩ : ∃ f, F - i = f + 1 := by
      cases e : F - i with
      | zero => rw [e] at hrn; cases hrn
      | succ f => exact ⟨f, rfl⟩
    rw [hf1] at hrn
    by_cases g : last ≤ k
    · have hrn : (if last ≤ k then some (some (l.getLast?.getD 0)) else _) = some r := hrn
      rw [if_pos g] at hrn
      cases hrn
      by_cases z : n = 0
      · repeat (first | (with_reducible refine rn_b (by simp (disch := omega) only [obs, i3_lit, i3_neg, i3_add, i3_sub, i3_mul, i3_lt, i3_le, i3_eq, i3_inb, i3_nat, b3_0, Classical.not_not, i6_lit, i6_neg, i6_add, i6_sub, i6_mul, i3_l, p_ki, p_kl, p_kr, p_ni, p_nl, p_ri, p_rl, p_dwi, p_dwl, p_dwr, p_fwi, p_fwl, p_iwi, p_iwl, p_iwr, p_lwi, p_lwl, p_lwr, p_rwi, p_rwl, p_rwr, p_kwi, p_kwl, p_kwr, p_zwi, p_zwl, p_zwr, p_swi, p_swl, p_swr, and_self, and_true, true_and, and_false, false_and, if_true, if_false, not_true_eq_false, not_false_eq_true, ne_eq, true_or, or_true, or_false, false_or, or_self, reduceCtorEq, Nat.reduceEqDiff, Int.reduceEq, Int.reduceLT, Int.reduceLE, Int.reduceAdd, Int.reduceSub, Int.reduceNeg, ↓reduceIte, if_n, i3_ite] <;> exact rfl) ?_) | (with_reducible refine rn_t (by first | (simp (disch := omega) only [obs, i3_lit, i3_neg, i3_add, i3_sub, i3_mul, i3_lt, i3_le, i3_eq, i3_inb, i3_nat, b3_0, Classical.not_not, i6_lit, i6_neg, i6_add, i6_sub, i6_mul, i3_l, p_ki, p_kl, p_kr, p_ni, p_nl, p_ri, p_rl, p_dwi, p_dwl, p_dwr, p_fwi, p_fwl, p_iwi, p_iwl, p_iwr, p_lwi, p_lwl, p_lwr, p_rwi, p_rwl, p_rwr, p_kwi, p_kwl, p_kwr, p_zwi, p_zwl, p_zwr, p_swi, p_swl, p_swr, and_self, and_true, true_and, and_false, false_and, if_true, if_false, not_true_eq_false, not_false_eq_true, ne_eq, true_or, or_true, or_false, false_or, or_self, reduceCtorEq, Nat.reduceEqDiff, Int.reduceEq, Int.reduceLT, Int.reduceLE, Int.reduceAdd, Int.reduceSub, Int.reduceNeg, ↓reduceIte, if_n, i3_ite] <;> omega) | assumption | omega) ?_) | (with_reducible refine rn_f (by first | (simp (disch := omega) only [obs, i3_lit, i3_neg, i3_add, i3_sub, i3_mul, i3_lt, i3_le, i3_eq, i3_inb, i3_nat, b3_0, Classical.not_not, i6_lit, i6_neg, i6_add, i6_sub, i6_mul, i3_l, p_ki, p_kl, p_kr, p_ni, p_nl, p_ri, p_rl, p_dwi, p_dwl, p_dwr, p_fwi, p_fwl, p_iwi, p_iwl, p_iwr, p_lwi, p_lwl, p_lwr, p_rwi, p_rwl, p_rwr, p_kwi, p_kwl, p_kwr, p_zwi, p_zwl, p_zwr, p_swi, p_swl, p_swr, and_self, and_true, true_and, and_false, false_and, if_true, if_false, not_true_eq_false, not_false_eq_true, ne_eq, true_or, or_true, or_false, false_or, or_self, reduceCtorEq, Nat.reduceEqDiff, Int.reduceEq, Int.reduceLT, Int.reduceLE, Int.reduceAdd, Int.reduceSub, Int.reduceNeg, ↓reduceIte, if_n, i3_ite] <;> omega) | assumption | omega) ?_) | (unfold fX7_run_J314)); try dsimp only
        refine Or.inr ⟨_, rfl, fr_wl hf rfl, ?_, fun w q => ?_⟩
        · exact h36
        · have : l = [] := by cases l with
            | nil => rfl
            | cons a b => rw [List.length_cons] at hnl; omega
          subst this
          cases q
          simp (disch := omega) only [obs, i3_lit, i3_neg, i3_add, i3_sub, i3_mul, i3_lt, i3_le, i3_eq, i3_inb, i3_nat, b3_0, Classical.not_not, i6_lit, i6_neg, i6_add, i6_sub, i6_mul, i3_l, p_ki, p_kl, p_kr, p_ni, p_nl, p_ri, p_rl, p_dwi, p_dwl, p_dwr, p_fwi, p_fwl, p_iwi, p_iwl, p_iwr, p_lwi, p_lwl, p_lwr, p_rwi, p_rwl, p_rwr, p_kwi, p_kwl, p_kwr, p_zwi, p_zwl, p_zwr, p_swi, p_swl, p_swr, and_self, and_true, true_and, and_false, false_and, if_true, if_false, not_true_eq_false, not_false_eq_true, ne_eq, true_or, or_true, or_false, false_or, or_self, reduceCtorEq, Nat.reduceEqDiff, Int.reduceEq, Int.reduceLT, Int.reduceLE, Int.reduceAdd, Int.reduceSub, Int.reduceNeg, ↓reduceIte, if_n, i3_ite]
          rw [if_pos (by omega)]
          rfl
      · repeat (first | (with_reducible refine rn_b (by simp (disch := omega) only [obs, i3_lit, i3_neg, i3_add, i3_sub, i3_mul, i3_lt, i3_le, i3_eq, i3_inb, i3_nat, b3_0, Classical.not_not, i6_lit, i6_neg, i6_add, i6_sub, i6_mul, i3_l, p_ki, p_kl, p_kr, p_ni, p_nl, p_ri, p_rl, p_dwi, p_dwl, p_dwr, p_fwi, p_fwl, p_iwi, p_iwl, p_iwr, p_lwi, p_lwl, p_lwr, p_rwi, p_rwl, p_rwr, p_kwi, p_kwl, p_kwr, p_zwi, p_zwl, p_zwr, p_swi, p_swl, p_swr, and_self, and_true, true_and, and_false, false_and, if_true, if_false, not_true_eq_false, not_false_eq_true, ne_eq, true_or, or_true, or_false, false_or, or_self, reduceCtorEq, Nat.reduceEqDiff, Int.reduceEq, Int.reduceLT, Int.reduceLE, Int.reduceAdd, Int.reduceSub, Int.reduceNeg, ↓reduceIte, if_n, i3_ite] <;> exact rfl) ?_) | (with_reducible refine rn_t (by first | (simp (disch := omega) only [obs, i3_lit, i3_neg, i3_add, i3_sub, i3_mul, i3_lt, i3_le, i3_eq, i3_inb, i3_nat, b3_0, Classical.not_not, i6_lit, i6_neg, i6_add, i6_sub, i6_mul, i3_l, p_ki, p_kl, p_kr, p_ni, p_nl, p_ri, p_rl, p_dwi, p_dwl, p_dwr, p_fwi, p_fwl, p_iwi, p_iwl, p_iwr, p_lwi, p_lwl, p_lwr, p_rwi, p_rwl, p_rwr, p_kwi, p_kwl, p_kwr, p_zwi, p_zwl, p_zwr, p_swi, p_swl, p_swr, and_self, and_true, true_and, and_false, false_and, if_true, if_false, not_true_eq_false, not_false_eq_true, ne_eq, true_or, or_true, or_false, false_or, or_self, reduceCtorEq, Nat.reduceEqDiff, Int.reduceEq, Int.reduceLT, Int.reduceLE, Int.reduceAdd, Int.reduceSub, Int.reduceNeg, ↓reduceIte, if_n, i3_ite] <;> omega) | assumption | omega) ?_) | (with_reducible refine rn_f (by first | (simp (disch := omega) only [obs, i3_lit, i3_neg, i3_add, i3_sub, i3_mul, i3_lt, i3_le, i3_eq, i3_inb, i3_nat, b3_0, Classical.not_not, i6_lit, i6_neg, i6_add, i6_sub, i6_mul, i3_l, p_ki, p_kl, p_kr, p_ni, p_nl, p_ri, p_rl, p_dwi, p_dwl, p_dwr, p_fwi, p_fwl, p_iwi, p_iwl, p_iwr, p_lwi, p_lwl, p_lwr, p_rwi, p_rwl, p_rwr, p_kwi, p_kwl, p_kwr, p_zwi, p_zwl, p_zwr, p_swi, p_swl, p_swr, and_self, and_true, true_and, and_false, false_and, if_true, if_false, not_true_eq_false, not_false_eq_true, ne_eq, true_or, or_true, or_false, false_or, or_self, reduceCtorEq, Nat.reduceEqDiff, Int.reduceEq, Int.reduceLT, Int.reduceLE, Int.reduceAdd, Int.reduceSub, Int.reduceNeg, ↓reduceIte, if_n, i3_ite] <;> omega) | assumption | omega) ?_) | (unfold fX7_run_J314)); try dsimp only
        refine Or.inr ⟨_, rfl, fr_wl hf rfl, ?_, fun w q => ?_⟩
        · exact h36
        · cases q
          simp (disch := omega) only [obs, i3_lit, i3_neg, i3_add, i3_sub, i3_mul, i3_lt, i3_le, i3_eq, i3_inb, i3_nat, b3_0, Classical.not_not, i6_lit, i6_neg, i6_add, i6_sub, i6_mul, i3_l, p_ki, p_kl, p_kr, p_ni, p_nl, p_ri, p_rl, p_dwi, p_dwl, p_dwr, p_fwi, p_fwl, p_iwi, p_iwl, p_iwr, p_lwi, p_lwl, p_lwr, p_rwi, p_rwl, p_rwr, p_kwi, p_kwl, p_kwr, p_zwi, p_zwl, p_zwr, p_swi, p_swl, p_swr, and_self, and_true, true_and, and_false, false_and, if_true, if_false, not_true_eq_false, not_false_eq_true, ne_eq, true_or, or_true, or_false, false_or, or_self, reduceCtorEq, Nat.reduceEqDiff, Int.reduceEq, Int.reduceLT, Int.reduceLE, Int.reduceAdd, Int.reduceSub, Int.reduceNeg, ↓reduceIte, if_n, i3_ite]
          have h0 := (hp 0 (by omega)).1
          rw [if_neg (by omega), h0, List.getLast?_eq_head?_reverse, List.head?_eq_getElem?]
    · have hMt := mrw_fr hM hf rfl rfl
      have hst : StM st τ := fun j a b => by rw [fr_gi hf rfl]; exact hs j a b
      have vc := v.2.2.2.2.2.2.2.2.2.2.2.2.2 t k ht.1 ht.2 hk.1 (by omega)
      have e0 : gi τ 61 (2328 + 946 * t + 146 + 2 * k).toNat = i3 (rOp R t k) := hMt _ (by omega)
      have e1 : gi τ 61 (2328 + 946 * t + 146 + 2 * k + 1).toNat = i3 (rAr R t k) := hMt _ (by omega)
      have vo : 0 ≤ rOp R t k ∧ rOp R t k ≤ 19 := vc.1
      have va : 0 ≤ rAr R t k ∧ rAr R t k ≤ 10000 := vc.2
      have hf2 : F - (i + 1) = f := by omega
      have hi1 : i < F + 1 := by omega
      have next : ∀ (k' n' : Int) (υ : Sg), Frm 60 [36, 37] [75] σ υ → (0 ≤ k' ∧ k' ≤ 10000) → (0 ≤ n' ∧ n' ≤ 1000) → ((gi υ 60 36 = i3 0 ∧ ∃ l : List Int, n' = l.length ∧ n' ≤ k' ∧ Pil l υ ∧ rnn R t st last f k' l = some r) ∨ (gi υ 60 36 = i3 1 ∧ r = none)) → Rn (rec (i3 n', i3 k', υ)) (fun v => (∃ s', v = rec s' ∧ i < F + 1 ∧ ∃ (k n : Int) (τ : Sg), s' = (i3 n, i3 k, τ) ∧ Frm 60 [36, 37] [75] σ τ ∧ (0 ≤ k ∧ k ≤ 10000) ∧ (0 ≤ n ∧ n ≤ 1000) ∧ ((gi τ 60 36 = i3 0 ∧ ∃ l : List Int, n = l.length ∧ n ≤ k ∧ Pil l τ ∧ rnn R t st last (F - (i + 1)) k l = some r) ∨ (gi τ 60 36 = i3 1 ∧ r = none))) ∨ Ev v (fun τ => Frm 60 [36, 37] [75] σ τ ∧ gi τ 60 36 = i3 (if r = none then 1 else 0) ∧ ∀ w, r = some w → gl τ 60 37 = i6 w)) :=
        fun k' n' υ q1 q2 q3 q4 => Or.inl ⟨_, rfl, hi1, k', n', υ, rfl, q1, q2, q3, by rw [hf2]; exact q4⟩
      by_cases o8 : rOp R t k < 8
      · by_cases o0 : rOp R t k = 0
        · have hx := rnn_x (R := R) (t := t) (st := st) (last := last) (k := k) (x := rAr R t k) (f := f) (l := l) (by omega) o8 (by rw [if_pos o0]) (by omega)
          rw [hx] at hrn
          repeat (first | (with_reducible refine rn_b (by simp (disch := omega) only [obs, i3_lit, i3_neg, i3_add, i3_sub, i3_mul, i3_lt, i3_le, i3_eq, i3_inb, i3_nat, b3_0, Classical.not_not, i6_lit, i6_neg, i6_add, i6_sub, i6_mul, i3_l, p_ki, p_kl, p_kr, p_ni, p_nl, p_ri, p_rl, p_dwi, p_dwl, p_dwr, p_fwi, p_fwl, p_iwi, p_iwl, p_iwr, p_lwi, p_lwl, p_lwr, p_rwi, p_rwl, p_rwr, p_kwi, p_kwl, p_kwr, p_zwi, p_zwl, p_zwr, p_swi, p_swl, p_swr, and_self, and_true, true_and, and_false, false_and, if_true, if_false, not_true_eq_false, not_false_eq_true, ne_eq, true_or, or_true, or_false, false_or, or_self, reduceCtorEq, Nat.reduceEqDiff, Int.reduceEq, Int.reduceLT, Int.reduceLE, Int.reduceAdd, Int.reduceSub, Int.reduceNeg, ↓reduceIte, if_n, i3_ite, fX7_textAt, e0, e1, x7_in, o0] <;> exact rfl) ?_) | (with_reducible refine rn_t (by first | (simp (disch := omega) only [obs, i3_lit, i3_neg, i3_add, i3_sub, i3_mul, i3_lt, i3_le, i3_eq, i3_inb, i3_nat, b3_0, Classical.not_not, i6_lit, i6_neg, i6_add, i6_sub, i6_mul, i3_l, p_ki, p_kl, p_kr, p_ni, p_nl, p_ri, p_rl, p_dwi, p_dwl, p_dwr, p_fwi, p_fwl, p_iwi, p_iwl, p_iwr, p_lwi, p_lwl, p_lwr, p_rwi, p_rwl, p_rwr, p_kwi, p_kwl, p_kwr, p_zwi, p_zwl, p_zwr, p_swi, p_swl, p_swr, and_self, and_true, true_and, and_false, false_and, if_true, if_false, not_true_eq_false, not_false_eq_true, ne_eq, true_or, or_true, or_false, false_or, or_self, reduceCtorEq, Nat.reduceEqDiff, Int.reduceEq, Int.reduceLT, Int.reduceLE, Int.reduceAdd, Int.reduceSub, Int.reduceNeg, ↓reduceIte, if_n, i3_ite, fX7_textAt, e0, e1, x7_in, o0] <;> omega) | assumption | omega) ?_) | (with_reducible refine rn_f (by first | (simp (disch := omega) only [obs, i3_lit, i3_neg, i3_add, i3_sub, i3_mul, i3_lt, i3_le, i3_eq, i3_inb, i3_nat, b3_0, Classical.not_not, i6_lit, i6_neg, i6_add, i6_sub, i6_mul, i3_l, p_ki, p_kl, p_kr, p_ni, p_nl, p_ri, p_rl, p_dwi, p_dwl, p_dwr, p_fwi, p_fwl, p_iwi, p_iwl, p_iwr, p_lwi, p_lwl, p_lwr, p_rwi, p_rwl, p_rwr, p_kwi, p_kwl, p_kwr, p_zwi, p_zwl, p_zwr, p_swi, p_swl, p_swr, and_self, and_true, true_and, and_false, false_and, if_true, if_false, not_true_eq_false, not_false_eq_true, ne_eq, true_or, or_true, or_false, false_or, or_self, reduceCtorEq, Nat.reduceEqDiff, Int.reduceEq, Int.reduceLT, Int.reduceLE, Int.reduceAdd, Int.reduceSub, Int.reduceNeg, ↓reduceIte, if_n, i3_ite, fX7_textAt, e0, e1, x7_in, o0] <;> omega) | assumption | omega) ?_) | (unfold fX7_run_J101) | (unfold fX7_run_J311)); try dsimp only
          refine rn_c (by simp (disch := omega) only [obs, i3_lit, i3_neg, i3_add, i3_sub, i3_mul, i3_lt, i3_le, i3_eq, i3_inb, i3_nat, b3_0, Classical.not_not, i6_lit, i6_neg, i6_add, i6_sub, i6_mul, i3_l, p_ki, p_kl, p_kr, p_ni, p_nl, p_ri, p_rl, p_dwi, p_dwl, p_dwr, p_fwi, p_fwl, p_iwi, p_iwl, p_iwr, p_lwi, p_lwl, p_lwr, p_rwi, p_rwl, p_rwr, p_kwi, p_kwl, p_kwr, p_zwi, p_zwl, p_zwr, p_swi, p_swl, p_swr, and_self, and_true, true_and, and_false, false_and, if_true, if_false, not_true_eq_false, not_false_eq_true, ne_eq, true_or, or_true, or_false, false_or, or_self, reduceCtorEq, Nat.reduceEqDiff, Int.reduceEq, Int.reduceLT, Int.reduceLE, Int.reduceAdd, Int.reduceSub, Int.reduceNeg, ↓reduceIte, if_n, i3_ite, e1, x7_in, i3_l] <;> exact rfl) ?_
          have hpp := pil_push hp (x := rAr R t k) (by omega)
          refine next (k + 1) (n + 1) _ (fr_wi (fr_wl hf rfl) rfl) (by omega) (by omega) (Or.inl ⟨?_, _ :: l, by rw [List.length_cons]; omega, by omega, ?_, hrn⟩)
          · simp (disch := omega) only [obs, i3_lit, i3_neg, i3_add, i3_sub, i3_mul, i3_lt, i3_le, i3_eq, i3_inb, i3_nat, b3_0, Classical.not_not, i6_lit, i6_neg, i6_add, i6_sub, i6_mul, i3_l, p_ki, p_kl, p_kr, p_ni, p_nl, p_ri, p_rl, p_dwi, p_dwl, p_dwr, p_fwi, p_fwl, p_iwi, p_iwl, p_iwr, p_lwi, p_lwl, p_lwr, p_rwi, p_rwl, p_rwr, p_kwi, p_kwl, p_kwr, p_zwi, p_zwl, p_zwr, p_swi, p_swl, p_swr, and_self, and_true, true_and, and_false, false_and, if_true, if_false, not_true_eq_false, not_false_eq_true, ne_eq, true_or, or_true, or_false, false_or, or_self, reduceCtorEq, Nat.reduceEqDiff, Int.reduceEq, Int.reduceLT, Int.reduceLE, Int.reduceAdd, Int.reduceSub, Int.reduceNeg, ↓reduceIte, if_n, i3_ite]
            rw [if_pos (by omega)]
          · rw [show n.toNat = l.length by omega]
            exact hpp
        · have hs1 := hst (rOp R t k) (by omega) (by omega)
          have hx := rnn_x (R := R) (t := t) (st := st) (last := last) (k := k) (x := st (rOp R t k)) (f := f) (l := l) (by omega) o8 (by rw [if_neg o0]) hs1.2
          rw [hx] at hrn
          have hs2 := hs1.1
          have hs3 := hs1.2
          repeat (first | (with_reducible refine rn_b (by simp (disch := omega) only [obs, i3_lit, i3_neg, i3_add, i3_sub, i3_mul, i3_lt, i3_le, i3_eq, i3_inb, i3_nat, b3_0, Classical.not_not, i6_lit, i6_neg, i6_add, i6_sub, i6_mul, i3_l, p_ki, p_kl, p_kr, p_ni, p_nl, p_ri, p_rl, p_dwi, p_dwl, p_dwr, p_fwi, p_fwl, p_iwi, p_iwl, p_iwr, p_lwi, p_lwl, p_lwr, p_rwi, p_rwl, p_rwr, p_kwi, p_kwl, p_kwr, p_zwi, p_zwl, p_zwr, p_swi, p_swl, p_swr, and_self, and_true, true_and, and_false, false_and, if_true, if_false, not_true_eq_false, not_false_eq_true, ne_eq, true_or, or_true, or_false, false_or, or_self, reduceCtorEq, Nat.reduceEqDiff, Int.reduceEq, Int.reduceLT, Int.reduceLE, Int.reduceAdd, Int.reduceSub, Int.reduceNeg, ↓reduceIte, if_n, i3_ite, fX7_textAt, e0, e1, x7_in, o0, hs2] <;> exact rfl) ?_) | (with_reducible refine rn_t (by first | (simp (disch := omega) only [obs, i3_lit, i3_neg, i3_add, i3_sub, i3_mul, i3_lt, i3_le, i3_eq, i3_inb, i3_nat, b3_0, Classical.not_not, i6_lit, i6_neg, i6_add, i6_sub, i6_mul, i3_l, p_ki, p_kl, p_kr, p_ni, p_nl, p_ri, p_rl, p_dwi, p_dwl, p_dwr, p_fwi, p_fwl, p_iwi, p_iwl, p_iwr, p_lwi, p_lwl, p_lwr, p_rwi, p_rwl, p_rwr, p_kwi, p_kwl, p_kwr, p_zwi, p_zwl, p_zwr, p_swi, p_swl, p_swr, and_self, and_true, true_and, and_false, false_and, if_true, if_false, not_true_eq_false, not_false_eq_true, ne_eq, true_or, or_true, or_false, false_or, or_self, reduceCtorEq, Nat.reduceEqDiff, Int.reduceEq, Int.reduceLT, Int.reduceLE, Int.reduceAdd, Int.reduceSub, Int.reduceNeg, ↓reduceIte, if_n, i3_ite, fX7_textAt, e0, e1, x7_in, o0, hs2] <;> omega) | assumption | omega) ?_) | (with_reducible refine rn_f (by first | (simp (disch := omega) only [obs, i3_lit, i3_neg, i3_add, i3_sub, i3_mul, i3_lt, i3_le, i3_eq, i3_inb, i3_nat, b3_0, Classical.not_not, i6_lit, i6_neg, i6_add, i6_sub, i6_mul, i3_l, p_ki, p_kl, p_kr, p_ni, p_nl, p_ri, p_rl, p_dwi, p_dwl, p_dwr, p_fwi, p_fwl, p_iwi, p_iwl, p_iwr, p_lwi, p_lwl, p_lwr, p_rwi, p_rwl, p_rwr, p_kwi, p_kwl, p_kwr, p_zwi, p_zwl, p_zwr, p_swi, p_swl, p_swr, and_self, and_true, true_and, and_false, false_and, if_true, if_false, not_true_eq_false, not_false_eq_true, ne_eq, true_or, or_true, or_false, false_or, or_self, reduceCtorEq, Nat.reduceEqDiff, Int.reduceEq, Int.reduceLT, Int.reduceLE, Int.reduceAdd, Int.reduceSub, Int.reduceNeg, ↓reduceIte, if_n, i3_ite, fX7_textAt, e0, e1, x7_in, o0, hs2] <;> omega) | assumption | omega) ?_) | (unfold fX7_run_J101) | (unfold fX7_run_J311)); try dsimp only
          refine rn_c (by simp (disch := omega) only [obs, i3_lit, i3_neg, i3_add, i3_sub, i3_mul, i3_lt, i3_le, i3_eq, i3_inb, i3_nat, b3_0, Classical.not_not, i6_lit, i6_neg, i6_add, i6_sub, i6_mul, i3_l, p_ki, p_kl, p_kr, p_ni, p_nl, p_ri, p_rl, p_dwi, p_dwl, p_dwr, p_fwi, p_fwl, p_iwi, p_iwl, p_iwr, p_lwi, p_lwl, p_lwr, p_rwi, p_rwl, p_rwr, p_kwi, p_kwl, p_kwr, p_zwi, p_zwl, p_zwr, p_swi, p_swl, p_swr, and_self, and_true, true_and, and_false, false_and, if_true, if_false, not_true_eq_false, not_false_eq_true, ne_eq, true_or, or_true, or_false, false_or, or_self, reduceCtorEq, Nat.reduceEqDiff, Int.reduceEq, Int.reduceLT, Int.reduceLE, Int.reduceAdd, Int.reduceSub, Int.reduceNeg, ↓reduceIte, if_n, i3_ite, e0, hs2, x7_in, i3_l] <;> exact rfl) ?_
          have hpp := pil_push hp (x := st (rOp R t k)) (by omega)
          refine next (k + 1) (n + 1) _ (fr_wi (fr_wl hf rfl) rfl) (by omega) (by omega) (Or.inl ⟨?_, _ :: l, by rw [List.length_cons]; omega, by omega, ?_, hrn⟩)
          · simp (disch := omega) only [obs, i3_lit, i3_neg, i3_add, i3_sub, i3_mul, i3_lt, i3_le, i3_eq, i3_inb, i3_nat, b3_0, Classical.not_not, i6_lit, i6_neg, i6_add, i6_sub, i6_mul, i3_l, p_ki, p_kl, p_kr, p_ni, p_nl, p_ri, p_rl, p_dwi, p_dwl, p_dwr, p_fwi, p_fwl, p_iwi, p_iwl, p_iwr, p_lwi, p_lwl, p_lwr, p_rwi, p_rwl, p_rwr, p_kwi, p_kwl, p_kwr, p_zwi, p_zwl, p_zwr, p_swi, p_swl, p_swr, and_self, and_true, true_and, and_false, false_and, if_true, if_false, not_true_eq_false, not_false_eq_true, ne_eq, true_or, or_true, or_false, false_or, or_self, reduceCtorEq, Nat.reduceEqDiff, Int.reduceEq, Int.reduceLT, Int.reduceLE, Int.reduceAdd, Int.reduceSub, Int.reduceNeg, ↓reduceIte, if_n, i3_ite]
            rw [if_pos (by omega)]
          · rw [show n.toNat = l.length by omega]
            exact hpp
      · by_cases o15 : rOp R t k < 15
        · match l, hnl, hp, hrn with
          | [], _, _, hrn =>
            simp only [rnn] at hrn
            rw [if_neg g, if_neg o8, if_pos o15] at hrn
            cases hrn
          | [_], _, _, hrn =>
            simp only [rnn] at hrn
            rw [if_neg g, if_neg o8, if_pos o15] at hrn
            cases hrn
          | b :: a :: l, hnl, hp, hrn =>
            rw [rnn_2 (by omega) (by omega)] at hrn
            rw [List.length_cons, List.length_cons] at hnl
            obtain ⟨hp1, hb1, hb2⟩ := pil_pop hp
            obtain ⟨hp2, ha1, ha2⟩ := pil_pop hp1
            rw [List.length_cons] at hb1
            have eb : gl τ 75 (n + -1).toNat = i6 b := by rw [show (n + -1).toNat = l.length + 1 by omega]; exact hb1
            have ea : gl τ 75 (n + -1 - 1).toNat = i6 a := by rw [show (n + -1 - 1).toNat = l.length by omega]; exact ha1
            obtain ⟨x, υ, hrk, hfu, hx, hcx⟩ := x7_reckon (σ := τ) (op := rOp R t k) (a := a) (b := b) (by omega) ha2 hb2 h36
            have hpu : Pil l υ := pil_fr hp2 (fun i => fr_gl hfu rfl)
            rcases hcx with ⟨u36, hr1⟩ | ⟨u36, hr1, hr2⟩
            · rw [hr1] at hrn
              dsimp only at hrn
              by_cases z : -1000000 ≤ x ∧ x ≤ 1000000
              · rw [if_pos z] at hrn
                repeat (first | (with_reducible refine rn_b (by simp (disch := omega) only [obs, i3_lit, i3_neg, i3_add, i3_sub, i3_mul, i3_lt, i3_le, i3_eq, i3_inb, i3_nat, b3_0, Classical.not_not, i6_lit, i6_neg, i6_add, i6_sub, i6_mul, i3_l, p_ki, p_kl, p_kr, p_ni, p_nl, p_ri, p_rl, p_dwi, p_dwl, p_dwr, p_fwi, p_fwl, p_iwi, p_iwl, p_iwr, p_lwi, p_lwl, p_lwr, p_rwi, p_rwl, p_rwr, p_kwi, p_kwl, p_kwr, p_zwi, p_zwl, p_zwr, p_swi, p_swl, p_swr, and_self, and_true, true_and, and_false, false_and, if_true, if_false, not_true_eq_false, not_false_eq_true, ne_eq, true_or, or_true, or_false, false_or, or_self, reduceCtorEq, Nat.reduceEqDiff, Int.reduceEq, Int.reduceLT, Int.reduceLE, Int.reduceAdd, Int.reduceSub, Int.reduceNeg, ↓reduceIte, if_n, i3_ite, fX7_textAt, e0, e1, ea, eb, hrk, u36, x7_in] <;> exact rfl) ?_) | (with_reducible refine rn_t (by first | (simp (disch := omega) only [obs, i3_lit, i3_neg, i3_add, i3_sub, i3_mul, i3_lt, i3_le, i3_eq, i3_inb, i3_nat, b3_0, Classical.not_not, i6_lit, i6_neg, i6_add, i6_sub, i6_mul, i3_l, p_ki, p_kl, p_kr, p_ni, p_nl, p_ri, p_rl, p_dwi, p_dwl, p_dwr, p_fwi, p_fwl, p_iwi, p_iwl, p_iwr, p_lwi, p_lwl, p_lwr, p_rwi, p_rwl, p_rwr, p_kwi, p_kwl, p_kwr, p_zwi, p_zwl, p_zwr, p_swi, p_swl, p_swr, and_self, and_true, true_and, and_false, false_and, if_true, if_false, not_true_eq_false, not_false_eq_true, ne_eq, true_or, or_true, or_false, false_or, or_self, reduceCtorEq, Nat.reduceEqDiff, Int.reduceEq, Int.reduceLT, Int.reduceLE, Int.reduceAdd, Int.reduceSub, Int.reduceNeg, ↓reduceIte, if_n, i3_ite, fX7_textAt, e0, e1, ea, eb, hrk, u36, x7_in] <;> omega) | assumption | omega) ?_) | (with_reducible refine rn_f (by first | (simp (disch := omega) only [obs, i3_lit, i3_neg, i3_add, i3_sub, i3_mul, i3_lt, i3_le, i3_eq, i3_inb, i3_nat, b3_0, Classical.not_not, i6_lit, i6_neg, i6_add, i6_sub, i6_mul, i3_l, p_ki, p_kl, p_kr, p_ni, p_nl, p_ri, p_rl, p_dwi, p_dwl, p_dwr, p_fwi, p_fwl, p_iwi, p_iwl, p_iwr, p_lwi, p_lwl, p_lwr, p_rwi, p_rwl, p_rwr, p_kwi, p_kwl, p_kwr, p_zwi, p_zwl, p_zwr, p_swi, p_swl, p_swr, and_self, and_true, true_and, and_false, false_and, if_true, if_false, not_true_eq_false, not_false_eq_true, ne_eq, true_or, or_true, or_false, false_or, or_self, reduceCtorEq, Nat.reduceEqDiff, Int.reduceEq, Int.reduceLT, Int.reduceLE, Int.reduceAdd, Int.reduceSub, Int.reduceNeg, ↓reduceIte, if_n, i3_ite, fX7_textAt, e0, e1, ea, eb, hrk, u36, x7_in] <;> omega) | assumption | omega) ?_) | (unfold fX7_run_J206) | (unfold fX7_run_J211) | (unfold fX7_run_J311)); try dsimp only
                refine rn_c (by simp (disch := omega) only [obs, i3_lit, i3_neg, i3_add, i3_sub, i3_mul, i3_lt, i3_le, i3_eq, i3_inb, i3_nat, b3_0, Classical.not_not, i6_lit, i6_neg, i6_add, i6_sub, i6_mul, i3_l, p_ki, p_kl, p_kr, p_ni, p_nl, p_ri, p_rl, p_dwi, p_dwl, p_dwr, p_fwi, p_fwl, p_iwi, p_iwl, p_iwr, p_lwi, p_lwl, p_lwr, p_rwi, p_rwl, p_rwr, p_kwi, p_kwl, p_kwr, p_zwi, p_zwl, p_zwr, p_swi, p_swl, p_swr, and_self, and_true, true_and, and_false, false_and, if_true, if_false, not_true_eq_false, not_false_eq_true, ne_eq, true_or, or_true, or_false, false_or, or_self, reduceCtorEq, Nat.reduceEqDiff, Int.reduceEq, Int.reduceLT, Int.reduceLE, Int.reduceAdd, Int.reduceSub, Int.reduceNeg, ↓reduceIte, if_n, i3_ite, x7_in] <;> exact rfl) ?_
                have hpp := pil_push hpu z
                refine next (k + 1) (n + -1) _ (fr_wi (fr_wl (fr_trans hf (fr_sub hfu rfl rfl)) rfl) rfl) (by omega) (by omega) (Or.inl ⟨?_, _ :: l, by rw [List.length_cons]; omega, by omega, ?_, hrn⟩)
                · simp (disch := omega) only [obs, i3_lit, i3_neg, i3_add, i3_sub, i3_mul, i3_lt, i3_le, i3_eq, i3_inb, i3_nat, b3_0, Classical.not_not, i6_lit, i6_neg, i6_add, i6_sub, i6_mul, i3_l, p_ki, p_kl, p_kr, p_ni, p_nl, p_ri, p_rl, p_dwi, p_dwl, p_dwr, p_fwi, p_fwl, p_iwi, p_iwl, p_iwr, p_lwi, p_lwl, p_lwr, p_rwi, p_rwl, p_rwr, p_kwi, p_kwl, p_kwr, p_zwi, p_zwl, p_zwr, p_swi, p_swl, p_swr, and_self, and_true, true_and, and_false, false_and, if_true, if_false, not_true_eq_false, not_false_eq_true, ne_eq, true_or, or_true, or_false, false_or, or_self, reduceCtorEq, Nat.reduceEqDiff, Int.reduceEq, Int.reduceLT, Int.reduceLE, Int.reduceAdd, Int.reduceSub, Int.reduceNeg, ↓reduceIte, if_n, i3_ite]
                  rw [if_pos (by omega)]
                · rw [show (n + -1 - 1).toNat = l.length by omega]
                  exact hpp
              · rw [if_neg z] at hrn
                cases hrn
                repeat (first | (with_reducible refine rn_b (by simp (disch := omega) only [obs, i3_lit, i3_neg, i3_add, i3_sub, i3_mul, i3_lt, i3_le, i3_eq, i3_inb, i3_nat, b3_0, Classical.not_not, i6_lit, i6_neg, i6_add, i6_sub, i6_mul, i3_l, p_ki, p_kl, p_kr, p_ni, p_nl, p_ri, p_rl, p_dwi, p_dwl, p_dwr, p_fwi, p_fwl, p_iwi, p_iwl, p_iwr, p_lwi, p_lwl, p_lwr, p_rwi, p_rwl, p_rwr, p_kwi, p_kwl, p_kwr, p_zwi, p_zwl, p_zwr, p_swi, p_swl, p_swr, and_self, and_true, true_and, and_false, false_and, if_true, if_false, not_true_eq_false, not_false_eq_true, ne_eq, true_or, or_true, or_false, false_or, or_self, reduceCtorEq, Nat.reduceEqDiff, Int.reduceEq, Int.reduceLT, Int.reduceLE, Int.reduceAdd, Int.reduceSub, Int.reduceNeg, ↓reduceIte, if_n, i3_ite, fX7_textAt, e0, e1, ea, eb, hrk, u36, x7_in] <;> exact rfl) ?_) | (with_reducible refine rn_t (by first | (simp (disch := omega) only [obs, i3_lit, i3_neg, i3_add, i3_sub, i3_mul, i3_lt, i3_le, i3_eq, i3_inb, i3_nat, b3_0, Classical.not_not, i6_lit, i6_neg, i6_add, i6_sub, i6_mul, i3_l, p_ki, p_kl, p_kr, p_ni, p_nl, p_ri, p_rl, p_dwi, p_dwl, p_dwr, p_fwi, p_fwl, p_iwi, p_iwl, p_iwr, p_lwi, p_lwl, p_lwr, p_rwi, p_rwl, p_rwr, p_kwi, p_kwl, p_kwr, p_zwi, p_zwl, p_zwr, p_swi, p_swl, p_swr, and_self, and_true, true_and, and_false, false_and, if_true, if_false, not_true_eq_false, not_false_eq_true, ne_eq, true_or, or_true, or_false, false_or, or_self, reduceCtorEq, Nat.reduceEqDiff, Int.reduceEq, Int.reduceLT, Int.reduceLE, Int.reduceAdd, Int.reduceSub, Int.reduceNeg, ↓reduceIte, if_n, i3_ite, fX7_textAt, e0, e1, ea, eb, hrk, u36, x7_in] <;> omega) | assumption | omega) ?_) | (with_reducible refine rn_f (by first | (simp (disch := omega) only [obs, i3_lit, i3_neg, i3_add, i3_sub, i3_mul, i3_lt, i3_le, i3_eq, i3_inb, i3_nat, b3_0, Classical.not_not, i6_lit, i6_neg, i6_add, i6_sub, i6_mul, i3_l, p_ki, p_kl, p_kr, p_ni, p_nl, p_ri, p_rl, p_dwi, p_dwl, p_dwr, p_fwi, p_fwl, p_iwi, p_iwl, p_iwr, p_lwi, p_lwl, p_lwr, p_rwi, p_rwl, p_rwr, p_kwi, p_kwl, p_kwr, p_zwi, p_zwl, p_zwr, p_swi, p_swl, p_swr, and_self, and_true, true_and, and_false, false_and, if_true, if_false, not_true_eq_false, not_false_eq_true, ne_eq, true_or, or_true, or_false, false_or, or_self, reduceCtorEq, Nat.reduceEqDiff, Int.reduceEq, Int.reduceLT, Int.reduceLE, Int.reduceAdd, Int.reduceSub, Int.reduceNeg, ↓reduceIte, if_n, i3_ite, fX7_textAt, e0, e1, ea, eb, hrk, u36, x7_in] <;> omega) | assumption | omega) ?_) | (unfold fX7_run_J206) | (unfold fX7_run_J211) | (unfold fX7_run_J311)); try dsimp only
                refine rn_c (by simp (disch := omega) only [obs, i3_lit, i3_neg, i3_add, i3_sub, i3_mul, i3_lt, i3_le, i3_eq, i3_inb, i3_nat, b3_0, Classical.not_not, i6_lit, i6_neg, i6_add, i6_sub, i6_mul, i3_l, p_ki, p_kl, p_kr, p_ni, p_nl, p_ri, p_rl, p_dwi, p_dwl, p_dwr, p_fwi, p_fwl, p_iwi, p_iwl, p_iwr, p_lwi, p_lwl, p_lwr, p_rwi, p_rwl, p_rwr, p_kwi, p_kwl, p_kwr, p_zwi, p_zwl, p_zwr, p_swi, p_swl, p_swr, and_self, and_true, true_and, and_false, false_and, if_true, if_false, not_true_eq_false, not_false_eq_true, ne_eq, true_or, or_true, or_false, false_or, or_self, reduceCtorEq, Nat.reduceEqDiff, Int.reduceEq, Int.reduceLT, Int.reduceLE, Int.reduceAdd, Int.reduceSub, Int.reduceNeg, ↓reduceIte, if_n, i3_ite, x7_in] <;> exact rfl) ?_
                refine next (k + 1) (n + -1) _ (fr_wi (fr_wl (fr_trans hf (fr_sub hfu rfl rfl)) rfl) rfl) (by omega) (by omega) (Or.inr ⟨?_, rfl⟩)
                · simp (disch := omega) only [obs, i3_lit, i3_neg, i3_add, i3_sub, i3_mul, i3_lt, i3_le, i3_eq, i3_inb, i3_nat, b3_0, Classical.not_not, i6_lit, i6_neg, i6_add, i6_sub, i6_mul, i3_l, p_ki, p_kl, p_kr, p_ni, p_nl, p_ri, p_rl, p_dwi, p_dwl, p_dwr, p_fwi, p_fwl, p_iwi, p_iwl, p_iwr, p_lwi, p_lwl, p_lwr, p_rwi, p_rwl, p_rwr, p_kwi, p_kwl, p_kwr, p_zwi, p_zwl, p_zwr, p_swi, p_swl, p_swr, and_self, and_true, true_and, and_false, false_and, if_true, if_false, not_true_eq_false, not_false_eq_true, ne_eq, true_or, or_true, or_false, false_or, or_self, reduceCtorEq, Nat.reduceEqDiff, Int.reduceEq, Int.reduceLT, Int.reduceLE, Int.reduceAdd, Int.reduceSub, Int.reduceNeg, ↓reduceIte, if_n, i3_ite]
                  rw [if_neg (by omega)]
            · rw [hr1] at hrn
              cases hrn
              repeat (first | (with_reducible refine rn_b (by simp (disch := omega) only [obs, i3_lit, i3_neg, i3_add, i3_sub, i3_mul, i3_lt, i3_le, i3_eq, i3_inb, i3_nat, b3_0, Classical.not_not, i6_lit, i6_neg, i6_add, i6_sub, i6_mul, i3_l, p_ki, p_kl, p_kr, p_ni, p_nl, p_ri, p_rl, p_dwi, p_dwl, p_dwr, p_fwi, p_fwl, p_iwi, p_iwl, p_iwr, p_lwi, p_lwl, p_lwr, p_rwi, p_rwl, p_rwr, p_kwi, p_kwl, p_kwr, p_zwi, p_zwl, p_zwr, p_swi, p_swl, p_swr, and_self, and_true, true_and, and_false, false_and, if_true, if_false, not_true_eq_false, not_false_eq_true, ne_eq, true_or, or_true, or_false, false_or, or_self, reduceCtorEq, Nat.reduceEqDiff, Int.reduceEq, Int.reduceLT, Int.reduceLE, Int.reduceAdd, Int.reduceSub, Int.reduceNeg, ↓reduceIte, if_n, i3_ite, fX7_textAt, e0, e1, ea, eb, hrk, u36, x7_in] <;> exact rfl) ?_) | (with_reducible refine rn_t (by first | (simp (disch := omega) only [obs, i3_lit, i3_neg, i3_add, i3_sub, i3_mul, i3_lt, i3_le, i3_eq, i3_inb, i3_nat, b3_0, Classical.not_not, i6_lit, i6_neg, i6_add, i6_sub, i6_mul, i3_l, p_ki, p_kl, p_kr, p_ni, p_nl, p_ri, p_rl, p_dwi, p_dwl, p_dwr, p_fwi, p_fwl, p_iwi, p_iwl, p_iwr, p_lwi, p_lwl, p_lwr, p_rwi, p_rwl, p_rwr, p_kwi, p_kwl, p_kwr, p_zwi, p_zwl, p_zwr, p_swi, p_swl, p_swr, and_self, and_true, true_and, and_false, false_and, if_true, if_false, not_true_eq_false, not_false_eq_true, ne_eq, true_or, or_true, or_false, false_or, or_self, reduceCtorEq, Nat.reduceEqDiff, Int.reduceEq, Int.reduceLT, Int.reduceLE, Int.reduceAdd, Int.reduceSub, Int.reduceNeg, ↓reduceIte, if_n, i3_ite, fX7_textAt, e0, e1, ea, eb, hrk, u36, x7_in] <;> omega) | assumption | omega) ?_) | (with_reducible refine rn_f (by first | (simp (disch := omega) only [obs, i3_lit, i3_neg, i3_add, i3_sub, i3_mul, i3_lt, i3_le, i3_eq, i3_inb, i3_nat, b3_0, Classical.not_not, i6_lit, i6_neg, i6_add, i6_sub, i6_mul, i3_l, p_ki, p_kl, p_kr, p_ni, p_nl, p_ri, p_rl, p_dwi, p_dwl, p_dwr, p_fwi, p_fwl, p_iwi, p_iwl, p_iwr, p_lwi, p_lwl, p_lwr, p_rwi, p_rwl, p_rwr, p_kwi, p_kwl, p_kwr, p_zwi, p_zwl, p_zwr, p_swi, p_swl, p_swr, and_self, and_true, true_and, and_false, false_and, if_true, if_false, not_true_eq_false, not_false_eq_true, ne_eq, true_or, or_true, or_false, false_or, or_self, reduceCtorEq, Nat.reduceEqDiff, Int.reduceEq, Int.reduceLT, Int.reduceLE, Int.reduceAdd, Int.reduceSub, Int.reduceNeg, ↓reduceIte, if_n, i3_ite, fX7_textAt, e0, e1, ea, eb, hrk, u36, x7_in] <;> omega) | assumption | omega) ?_) | (unfold fX7_run_J206) | (unfold fX7_run_J211) | (unfold fX7_run_J311)); try dsimp only
              refine rn_c (by simp (disch := omega) only [obs, i3_lit, i3_neg, i3_add, i3_sub, i3_mul, i3_lt, i3_le, i3_eq, i3_inb, i3_nat, b3_0, Classical.not_not, i6_lit, i6_neg, i6_add, i6_sub, i6_mul, i3_l, p_ki, p_kl, p_kr, p_ni, p_nl, p_ri, p_rl, p_dwi, p_dwl, p_dwr, p_fwi, p_fwl, p_iwi, p_iwl, p_iwr, p_lwi, p_lwl, p_lwr, p_rwi, p_rwl, p_rwr, p_kwi, p_kwl, p_kwr, p_zwi, p_zwl, p_zwr, p_swi, p_swl, p_swr, and_self, and_true, true_and, and_false, false_and, if_true, if_false, not_true_eq_false, not_false_eq_true, ne_eq, true_or, or_true, or_false, false_or, or_self, reduceCtorEq, Nat.reduceEqDiff, Int.reduceEq, Int.reduceLT, Int.reduceLE, Int.reduceAdd, Int.reduceSub, Int.reduceNeg, ↓reduceIte, if_n, i3_ite] <;> exact rfl) ?_
              refine next (k + 1) (n + -1) _ (fr_wi (fr_wl (fr_trans hf (fr_sub hfu rfl rfl)) rfl) rfl) (by omega) (by omega) (Or.inr ⟨?_, rfl⟩)
              · simp (disch := omega) only [obs, i3_lit, i3_neg, i3_add, i3_sub, i3_mul, i3_lt, i3_le, i3_eq, i3_inb, i3_nat, b3_0, Classical.not_not, i6_lit, i6_neg, i6_add, i6_sub, i6_mul, i3_l, p_ki, p_kl, p_kr, p_ni, p_nl, p_ri, p_rl, p_dwi, p_dwl, p_dwr, p_fwi, p_fwl, p_iwi, p_iwl, p_iwr, p_lwi, p_lwl, p_lwr, p_rwi, p_rwl, p_rwr, p_kwi, p_kwl, p_kwr, p_zwi, p_zwl, p_zwr, p_swi, p_swl, p_swr, and_self, and_true, true_and, and_false, false_and, if_true, if_false, not_true_eq_false, not_false_eq_true, ne_eq, true_or, or_true, or_false, false_or, or_self, reduceCtorEq, Nat.reduceEqDiff, Int.reduceEq, Int.reduceLT, Int.reduceLE, Int.reduceAdd, Int.reduceSub, Int.reduceNeg, ↓reduceIte, if_n, i3_ite]
        · match l, hnl, hp, hrn with
          | [], _, _, hrn =>
            simp only [rnn] at hrn
            rw [if_neg g, if_neg o8, if_neg o15] at hrn
            cases hrn
          | a :: l, hnl, hp, hrn =>
            rw [rnn_1 (by omega) (by omega)] at hrn
            rw [List.length_cons] at hnl
            obtain ⟨hp1, hb1, hb2⟩ := pil_pop hp
            have eb : gl τ 75 (n - 1).toNat = i6 a := by rw [show (n - 1).toNat = l.length by omega]; exact hb1
            by_cases p15 : rOp R t k = 15
            · rw [if_pos p15] at hrn
              repeat (first | (with_reducible refine rn_b (by simp (disch := omega) only [obs, i3_lit, i3_neg, i3_add, i3_sub, i3_mul, i3_lt, i3_le, i3_eq, i3_inb, i3_nat, b3_0, Classical.not_not, i6_lit, i6_neg, i6_add, i6_sub, i6_mul, i3_l, p_ki, p_kl, p_kr, p_ni, p_nl, p_ri, p_rl, p_dwi, p_dwl, p_dwr, p_fwi, p_fwl, p_iwi, p_iwl, p_iwr, p_lwi, p_lwl, p_lwr, p_rwi, p_rwl, p_rwr, p_kwi, p_kwl, p_kwr, p_zwi, p_zwl, p_zwr, p_swi, p_swl, p_swr, and_self, and_true, true_and, and_false, false_and, if_true, if_false, not_true_eq_false, not_false_eq_true, ne_eq, true_or, or_true, or_false, false_or, or_self, reduceCtorEq, Nat.reduceEqDiff, Int.reduceEq, Int.reduceLT, Int.reduceLE, Int.reduceAdd, Int.reduceSub, Int.reduceNeg, ↓reduceIte, if_n, i3_ite, fX7_textAt, e0, e1, eb, p15] <;> exact rfl) ?_) | (with_reducible refine rn_t (by first | (simp (disch := omega) only [obs, i3_lit, i3_neg, i3_add, i3_sub, i3_mul, i3_lt, i3_le, i3_eq, i3_inb, i3_nat, b3_0, Classical.not_not, i6_lit, i6_neg, i6_add, i6_sub, i6_mul, i3_l, p_ki, p_kl, p_kr, p_ni, p_nl, p_ri, p_rl, p_dwi, p_dwl, p_dwr, p_fwi, p_fwl, p_iwi, p_iwl, p_iwr, p_lwi, p_lwl, p_lwr, p_rwi, p_rwl, p_rwr, p_kwi, p_kwl, p_kwr, p_zwi, p_zwl, p_zwr, p_swi, p_swl, p_swr, and_self, and_true, true_and, and_false, false_and, if_true, if_false, not_true_eq_false, not_false_eq_true, ne_eq, true_or, or_true, or_false, false_or, or_self, reduceCtorEq, Nat.reduceEqDiff, Int.reduceEq, Int.reduceLT, Int.reduceLE, Int.reduceAdd, Int.reduceSub, Int.reduceNeg, ↓reduceIte, if_n, i3_ite, fX7_textAt, e0, e1, eb, p15] <;> omega) | assumption | omega) ?_) | (with_reducible refine rn_f (by first | (simp (disch := omega) only [obs, i3_lit, i3_neg, i3_add, i3_sub, i3_mul, i3_lt, i3_le, i3_eq, i3_inb, i3_nat, b3_0, Classical.not_not, i6_lit, i6_neg, i6_add, i6_sub, i6_mul, i3_l, p_ki, p_kl, p_kr, p_ni, p_nl, p_ri, p_rl, p_dwi, p_dwl, p_dwr, p_fwi, p_fwl, p_iwi, p_iwl, p_iwr, p_lwi, p_lwl, p_lwr, p_rwi, p_rwl, p_rwr, p_kwi, p_kwl, p_kwr, p_zwi, p_zwl, p_zwr, p_swi, p_swl, p_swr, and_self, and_true, true_and, and_false, false_and, if_true, if_false, not_true_eq_false, not_false_eq_true, ne_eq, true_or, or_true, or_false, false_or, or_self, reduceCtorEq, Nat.reduceEqDiff, Int.reduceEq, Int.reduceLT, Int.reduceLE, Int.reduceAdd, Int.reduceSub, Int.reduceNeg, ↓reduceIte, if_n, i3_ite, fX7_textAt, e0, e1, eb, p15] <;> omega) | assumption | omega) ?_) | (unfold fX7_run_J311)); try dsimp only
              refine rn_c (by simp (disch := omega) only [obs, i3_lit, i3_neg, i3_add, i3_sub, i3_mul, i3_lt, i3_le, i3_eq, i3_inb, i3_nat, b3_0, Classical.not_not, i6_lit, i6_neg, i6_add, i6_sub, i6_mul, i3_l, p_ki, p_kl, p_kr, p_ni, p_nl, p_ri, p_rl, p_dwi, p_dwl, p_dwr, p_fwi, p_fwl, p_iwi, p_iwl, p_iwr, p_lwi, p_lwl, p_lwr, p_rwi, p_rwl, p_rwr, p_kwi, p_kwl, p_kwr, p_zwi, p_zwl, p_zwr, p_swi, p_swl, p_swr, and_self, and_true, true_and, and_false, false_and, if_true, if_false, not_true_eq_false, not_false_eq_true, ne_eq, true_or, or_true, or_false, false_or, or_self, reduceCtorEq, Nat.reduceEqDiff, Int.reduceEq, Int.reduceLT, Int.reduceLE, Int.reduceAdd, Int.reduceSub, Int.reduceNeg, ↓reduceIte, if_n, i3_ite, eb, i6_neg] <;> exact rfl) ?_
              have hpp := pil_push hp1 (x := -a) (by omega)
              refine next (k + 1) n _ (fr_wl hf rfl) (by omega) (by omega) (Or.inl ⟨h36, _ :: l, by rw [List.length_cons]; omega, by omega, ?_, hrn⟩)
              rw [show (n - 1).toNat = l.length by omega]
              exact hpp
            · rw [if_neg p15] at hrn
              by_cases p17 : rOp R t k = 17
              · rw [if_pos p17] at hrn
                by_cases p01 : a = 0 ∨ a = 1
                · rw [if_pos p01] at hrn
                  repeat (first | (with_reducible refine rn_b (by simp (disch := omega) only [obs, i3_lit, i3_neg, i3_add, i3_sub, i3_mul, i3_lt, i3_le, i3_eq, i3_inb, i3_nat, b3_0, Classical.not_not, i6_lit, i6_neg, i6_add, i6_sub, i6_mul, i3_l, p_ki, p_kl, p_kr, p_ni, p_nl, p_ri, p_rl, p_dwi, p_dwl, p_dwr, p_fwi, p_fwl, p_iwi, p_iwl, p_iwr, p_lwi, p_lwl, p_lwr, p_rwi, p_rwl, p_rwr, p_kwi, p_kwl, p_kwr, p_zwi, p_zwl, p_zwr, p_swi, p_swl, p_swr, and_self, and_true, true_and, and_false, false_and, if_true, if_false, not_true_eq_false, not_false_eq_true, ne_eq, true_or, or_true, or_false, false_or, or_self, reduceCtorEq, Nat.reduceEqDiff, Int.reduceEq, Int.reduceLT, Int.reduceLE, Int.reduceAdd, Int.reduceSub, Int.reduceNeg, ↓reduceIte, if_n, i3_ite, fX7_textAt, e0, e1, eb, p17] <;> exact rfl) ?_) | (with_reducible refine rn_t (by first | (simp (disch := omega) only [obs, i3_lit, i3_neg, i3_add, i3_sub, i3_mul, i3_lt, i3_le, i3_eq, i3_inb, i3_nat, b3_0, Classical.not_not, i6_lit, i6_neg, i6_add, i6_sub, i6_mul, i3_l, p_ki, p_kl, p_kr, p_ni, p_nl, p_ri, p_rl, p_dwi, p_dwl, p_dwr, p_fwi, p_fwl, p_iwi, p_iwl, p_iwr, p_lwi, p_lwl, p_lwr, p_rwi, p_rwl, p_rwr, p_kwi, p_kwl, p_kwr, p_zwi, p_zwl, p_zwr, p_swi, p_swl, p_swr, and_self, and_true, true_and, and_false, false_and, if_true, if_false, not_true_eq_false, not_false_eq_true, ne_eq, true_or, or_true, or_false, false_or, or_self, reduceCtorEq, Nat.reduceEqDiff, Int.reduceEq, Int.reduceLT, Int.reduceLE, Int.reduceAdd, Int.reduceSub, Int.reduceNeg, ↓reduceIte, if_n, i3_ite, fX7_textAt, e0, e1, eb, p17] <;> omega) | assumption | omega) ?_) | (with_reducible refine rn_f (by first | (simp (disch := omega) only [obs, i3_lit, i3_neg, i3_add, i3_sub, i3_mul, i3_lt, i3_le, i3_eq, i3_inb, i3_nat, b3_0, Classical.not_not, i6_lit, i6_neg, i6_add, i6_sub, i6_mul, i3_l, p_ki, p_kl, p_kr, p_ni, p_nl, p_ri, p_rl, p_dwi, p_dwl, p_dwr, p_fwi, p_fwl, p_iwi, p_iwl, p_iwr, p_lwi, p_lwl, p_lwr, p_rwi, p_rwl, p_rwr, p_kwi, p_kwl, p_kwr, p_zwi, p_zwl, p_zwr, p_swi, p_swl, p_swr, and_self, and_true, true_and, and_false, false_and, if_true, if_false, not_true_eq_false, not_false_eq_true, ne_eq, true_or, or_true, or_false, false_or, or_self, reduceCtorEq, Nat.reduceEqDiff, Int.reduceEq, Int.reduceLT, Int.reduceLE, Int.reduceAdd, Int.reduceSub, Int.reduceNeg, ↓reduceIte, if_n, i3_ite, fX7_textAt, e0, e1, eb, p17] <;> omega) | assumption | omega) ?_) | (unfold fX7_run_J311)); try dsimp only
                  refine rn_c (by simp (disch := omega) only [obs, i3_lit, i3_neg, i3_add, i3_sub, i3_mul, i3_lt, i3_le, i3_eq, i3_inb, i3_nat, b3_0, Classical.not_not, i6_lit, i6_neg, i6_add, i6_sub, i6_mul, i3_l, p_ki, p_kl, p_kr, p_ni, p_nl, p_ri, p_rl, p_dwi, p_dwl, p_dwr, p_fwi, p_fwl, p_iwi, p_iwl, p_iwr, p_lwi, p_lwl, p_lwr, p_rwi, p_rwl, p_rwr, p_kwi, p_kwl, p_kwr, p_zwi, p_zwl, p_zwr, p_swi, p_swl, p_swr, and_self, and_true, true_and, and_false, false_and, if_true, if_false, not_true_eq_false, not_false_eq_true, ne_eq, true_or, or_true, or_false, false_or, or_self, reduceCtorEq, Nat.reduceEqDiff, Int.reduceEq, Int.reduceLT, Int.reduceLE, Int.reduceAdd, Int.reduceSub, Int.reduceNeg, ↓reduceIte, if_n, i3_ite, eb, i6_sub] <;> exact rfl) ?_
                  have hpp := pil_push hp1 (x := 1 - a) (by omega)
                  refine next (k + 1) n _ (fr_wl hf rfl) (by omega) (by omega) (Or.inl ⟨h36, _ :: l, by rw [List.length_cons]; omega, by omega, ?_, hrn⟩)
                  rw [show (n - 1).toNat = l.length by omega]
                  exact hpp
                · rw [if_neg p01] at hrn
                  cases hrn
              · rw [if_neg p17] at hrn
                by_cases p18 : rOp R t k = 18
                · rw [if_pos p18] at hrn
                  by_cases pa : a = 0
                  · rw [if_pos pa] at hrn
                    by_cases pk : k < rAr R t k
                    · rw [if_pos pk] at hrn
                      repeat (first | (with_reducible refine rn_b (by simp (disch := omega) only [obs, i3_lit, i3_neg, i3_add, i3_sub, i3_mul, i3_lt, i3_le, i3_eq, i3_inb, i3_nat, b3_0, Classical.not_not, i6_lit, i6_neg, i6_add, i6_sub, i6_mul, i3_l, p_ki, p_kl, p_kr, p_ni, p_nl, p_ri, p_rl, p_dwi, p_dwl, p_dwr, p_fwi, p_fwl, p_iwi, p_iwl, p_iwr, p_lwi, p_lwl, p_lwr, p_rwi, p_rwl, p_rwr, p_kwi, p_kwl, p_kwr, p_zwi, p_zwl, p_zwr, p_swi, p_swl, p_swr, and_self, and_true, true_and, and_false, false_and, if_true, if_false, not_true_eq_false, not_false_eq_true, ne_eq, true_or, or_true, or_false, false_or, or_self, reduceCtorEq, Nat.reduceEqDiff, Int.reduceEq, Int.reduceLT, Int.reduceLE, Int.reduceAdd, Int.reduceSub, Int.reduceNeg, ↓reduceIte, if_n, i3_ite, fX7_textAt, e0, e1, eb] <;> exact rfl) ?_) | (with_reducible refine rn_t (by first | (simp (disch := omega) only [obs, i3_lit, i3_neg, i3_add, i3_sub, i3_mul, i3_lt, i3_le, i3_eq, i3_inb, i3_nat, b3_0, Classical.not_not, i6_lit, i6_neg, i6_add, i6_sub, i6_mul, i3_l, p_ki, p_kl, p_kr, p_ni, p_nl, p_ri, p_rl, p_dwi, p_dwl, p_dwr, p_fwi, p_fwl, p_iwi, p_iwl, p_iwr, p_lwi, p_lwl, p_lwr, p_rwi, p_rwl, p_rwr, p_kwi, p_kwl, p_kwr, p_zwi, p_zwl, p_zwr, p_swi, p_swl, p_swr, and_self, and_true, true_and, and_false, false_and, if_true, if_false, not_true_eq_false, not_false_eq_true, ne_eq, true_or, or_true, or_false, false_or, or_self, reduceCtorEq, Nat.reduceEqDiff, Int.reduceEq, Int.reduceLT, Int.reduceLE, Int.reduceAdd, Int.reduceSub, Int.reduceNeg, ↓reduceIte, if_n, i3_ite, fX7_textAt, e0, e1, eb] <;> omega) | assumption | omega) ?_) | (with_reducible refine rn_f (by first | (simp (disch := omega) only [obs, i3_lit, i3_neg, i3_add, i3_sub, i3_mul, i3_lt, i3_le, i3_eq, i3_inb, i3_nat, b3_0, Classical.not_not, i6_lit, i6_neg, i6_add, i6_sub, i6_mul, i3_l, p_ki, p_kl, p_kr, p_ni, p_nl, p_ri, p_rl, p_dwi, p_dwl, p_dwr, p_fwi, p_fwl, p_iwi, p_iwl, p_iwr, p_lwi, p_lwl, p_lwr, p_rwi, p_rwl, p_rwr, p_kwi, p_kwl, p_kwr, p_zwi, p_zwl, p_zwr, p_swi, p_swl, p_swr, and_self, and_true, true_and, and_false, false_and, if_true, if_false, not_true_eq_false, not_false_eq_true, ne_eq, true_or, or_true, or_false, false_or, or_self, reduceCtorEq, Nat.reduceEqDiff, Int.reduceEq, Int.reduceLT, Int.reduceLE, Int.reduceAdd, Int.reduceSub, Int.reduceNeg, ↓reduceIte, if_n, i3_ite, fX7_textAt, e0, e1, eb] <;> omega) | assumption | omega) ?_)); try dsimp only
                      refine rn_c (by simp (disch := omega) only [obs, i3_lit, i3_neg, i3_add, i3_sub, i3_mul, i3_lt, i3_le, i3_eq, i3_inb, i3_nat, b3_0, Classical.not_not, i6_lit, i6_neg, i6_add, i6_sub, i6_mul, i3_l, p_ki, p_kl, p_kr, p_ni, p_nl, p_ri, p_rl, p_dwi, p_dwl, p_dwr, p_fwi, p_fwl, p_iwi, p_iwl, p_iwr, p_lwi, p_lwl, p_lwr, p_rwi, p_rwl, p_rwr, p_kwi, p_kwl, p_kwr, p_zwi, p_zwl, p_zwr, p_swi, p_swl, p_swr, and_self, and_true, true_and, and_false, false_and, if_true, if_false, not_true_eq_false, not_false_eq_true, ne_eq, true_or, or_true, or_false, false_or, or_self, reduceCtorEq, Nat.reduceEqDiff, Int.reduceEq, Int.reduceLT, Int.reduceLE, Int.reduceAdd, Int.reduceSub, Int.reduceNeg, ↓reduceIte, if_n, i3_ite, eb, e0, e1, p18, pa, i6_eq] <;> exact rfl) ?_
                      exact next (rAr R t k) n _ hf (by omega) (by omega) (Or.inl ⟨h36, a :: l, by rw [List.length_cons]; omega, by omega, hp, hrn⟩)
                    · rw [if_neg pk] at hrn
                      cases hrn
                  · rw [if_neg pa] at hrn
                    repeat (first | (with_reducible refine rn_b (by simp (disch := omega) only [obs, i3_lit, i3_neg, i3_add, i3_sub, i3_mul, i3_lt, i3_le, i3_eq, i3_inb, i3_nat, b3_0, Classical.not_not, i6_lit, i6_neg, i6_add, i6_sub, i6_mul, i3_l, p_ki, p_kl, p_kr, p_ni, p_nl, p_ri, p_rl, p_dwi, p_dwl, p_dwr, p_fwi, p_fwl, p_iwi, p_iwl, p_iwr, p_lwi, p_lwl, p_lwr, p_rwi, p_rwl, p_rwr, p_kwi, p_kwl, p_kwr, p_zwi, p_zwl, p_zwr, p_swi, p_swl, p_swr, and_self, and_true, true_and, and_false, false_and, if_true, if_false, not_true_eq_false, not_false_eq_true, ne_eq, true_or, or_true, or_false, false_or, or_self, reduceCtorEq, Nat.reduceEqDiff, Int.reduceEq, Int.reduceLT, Int.reduceLE, Int.reduceAdd, Int.reduceSub, Int.reduceNeg, ↓reduceIte, if_n, i3_ite, fX7_textAt, e0, e1, eb] <;> exact rfl) ?_) | (with_reducible refine rn_t (by first | (simp (disch := omega) only [obs, i3_lit, i3_neg, i3_add, i3_sub, i3_mul, i3_lt, i3_le, i3_eq, i3_inb, i3_nat, b3_0, Classical.not_not, i6_lit, i6_neg, i6_add, i6_sub, i6_mul, i3_l, p_ki, p_kl, p_kr, p_ni, p_nl, p_ri, p_rl, p_dwi, p_dwl, p_dwr, p_fwi, p_fwl, p_iwi, p_iwl, p_iwr, p_lwi, p_lwl, p_lwr, p_rwi, p_rwl, p_rwr, p_kwi, p_kwl, p_kwr, p_zwi, p_zwl, p_zwr, p_swi, p_swl, p_swr, and_self, and_true, true_and, and_false, false_and, if_true, if_false, not_true_eq_false, not_false_eq_true, ne_eq, true_or, or_true, or_false, false_or, or_self, reduceCtorEq, Nat.reduceEqDiff, Int.reduceEq, Int.reduceLT, Int.reduceLE, Int.reduceAdd, Int.reduceSub, Int.reduceNeg, ↓reduceIte, if_n, i3_ite, fX7_textAt, e0, e1, eb] <;> omega) | assumption | omega) ?_) | (with_reducible refine rn_f (by first | (simp (disch := omega) only [obs, i3_lit, i3_neg, i3_add, i3_sub, i3_mul, i3_lt, i3_le, i3_eq, i3_inb, i3_nat, b3_0, Classical.not_not, i6_lit, i6_neg, i6_add, i6_sub, i6_mul, i3_l, p_ki, p_kl, p_kr, p_ni, p_nl, p_ri, p_rl, p_dwi, p_dwl, p_dwr, p_fwi, p_fwl, p_iwi, p_iwl, p_iwr, p_lwi, p_lwl, p_lwr, p_rwi, p_rwl, p_rwr, p_kwi, p_kwl, p_kwr, p_zwi, p_zwl, p_zwr, p_swi, p_swl, p_swr, and_self, and_true, true_and, and_false, false_and, if_true, if_false, not_true_eq_false, not_false_eq_true, ne_eq, true_or, or_true, or_false, false_or, or_self, reduceCtorEq, Nat.reduceEqDiff, Int.reduceEq, Int.reduceLT, Int.reduceLE, Int.reduceAdd, Int.reduceSub, Int.reduceNeg, ↓reduceIte, if_n, i3_ite, fX7_textAt, e0, e1, eb] <;> omega) | assumption | omega) ?_)); try dsimp only
                    refine rn_c (by simp (disch := omega) only [obs, i3_lit, i3_neg, i3_add, i3_sub, i3_mul, i3_lt, i3_le, i3_eq, i3_inb, i3_nat, b3_0, Classical.not_not, i6_lit, i6_neg, i6_add, i6_sub, i6_mul, i3_l, p_ki, p_kl, p_kr, p_ni, p_nl, p_ri, p_rl, p_dwi, p_dwl, p_dwr, p_fwi, p_fwl, p_iwi, p_iwl, p_iwr, p_lwi, p_lwl, p_lwr, p_rwi, p_rwl, p_rwr, p_kwi, p_kwl, p_kwr, p_zwi, p_zwl, p_zwr, p_swi, p_swl, p_swr, and_self, and_true, true_and, and_false, false_and, if_true, if_false, not_true_eq_false, not_false_eq_true, ne_eq, true_or, or_true, or_false, false_or, or_self, reduceCtorEq, Nat.reduceEqDiff, Int.reduceEq, Int.reduceLT, Int.reduceLE, Int.reduceAdd, Int.reduceSub, Int.reduceNeg, ↓reduceIte, if_n, i3_ite, eb, e0, e1, p18, pa, i6_eq] <;> exact rfl) ?_
                    exact next (k + 1) (n + -1) _ hf (by omega) (by omega) (Or.inl ⟨h36, l, by omega, by omega, hp1, hrn⟩)
                · rw [if_neg p18] at hrn
                  by_cases pa : a = 1
                  · rw [if_pos pa] at hrn
                    by_cases pk : k < rAr R t k
                    · rw [if_pos pk] at hrn
                      repeat (first | (with_reducible refine rn_b (by simp (disch := omega) only [obs, i3_lit, i3_neg, i3_add, i3_sub, i3_mul, i3_lt, i3_le, i3_eq, i3_inb, i3_nat, b3_0, Classical.not_not, i6_lit, i6_neg, i6_add, i6_sub, i6_mul, i3_l, p_ki, p_kl, p_kr, p_ni, p_nl, p_ri, p_rl, p_dwi, p_dwl, p_dwr, p_fwi, p_fwl, p_iwi, p_iwl, p_iwr, p_lwi, p_lwl, p_lwr, p_rwi, p_rwl, p_rwr, p_kwi, p_kwl, p_kwr, p_zwi, p_zwl, p_zwr, p_swi, p_swl, p_swr, and_self, and_true, true_and, and_false, false_and, if_true, if_false, not_true_eq_false, not_false_eq_true, ne_eq, true_or, or_true, or_false, false_or, or_self, reduceCtorEq, Nat.reduceEqDiff, Int.reduceEq, Int.reduceLT, Int.reduceLE, Int.reduceAdd, Int.reduceSub, Int.reduceNeg, ↓reduceIte, if_n, i3_ite, fX7_textAt, e0, e1, eb] <;> exact rfl) ?_) | (with_reducible refine rn_t (by first | (simp (disch := omega) only [obs, i3_lit, i3_neg, i3_add, i3_sub, i3_mul, i3_lt, i3_le, i3_eq, i3_inb, i3_nat, b3_0, Classical.not_not, i6_lit, i6_neg, i6_add, i6_sub, i6_mul, i3_l, p_ki, p_kl, p_kr, p_ni, p_nl, p_ri, p_rl, p_dwi, p_dwl, p_dwr, p_fwi, p_fwl, p_iwi, p_iwl, p_iwr, p_lwi, p_lwl, p_lwr, p_rwi, p_rwl, p_rwr, p_kwi, p_kwl, p_kwr, p_zwi, p_zwl, p_zwr, p_swi, p_swl, p_swr, and_self, and_true, true_and, and_false, false_and, if_true, if_false, not_true_eq_false, not_false_eq_true, ne_eq, true_or, or_true, or_false, false_or, or_self, reduceCtorEq, Nat.reduceEqDiff, Int.reduceEq, Int.reduceLT, Int.reduceLE, Int.reduceAdd, Int.reduceSub, Int.reduceNeg, ↓reduceIte, if_n, i3_ite, fX7_textAt, e0, e1, eb] <;> omega) | assumption | omega) ?_) | (with_reducible refine rn_f (by first | (simp (disch := omega) only [obs, i3_lit, i3_neg, i3_add, i3_sub, i3_mul, i3_lt, i3_le, i3_eq, i3_inb, i3_nat, b3_0, Classical.not_not, i6_lit, i6_neg, i6_add, i6_sub, i6_mul, i3_l, p_ki, p_kl, p_kr, p_ni, p_nl, p_ri, p_rl, p_dwi, p_dwl, p_dwr, p_fwi, p_fwl, p_iwi, p_iwl, p_iwr, p_lwi, p_lwl, p_lwr, p_rwi, p_rwl, p_rwr, p_kwi, p_kwl, p_kwr, p_zwi, p_zwl, p_zwr, p_swi, p_swl, p_swr, and_self, and_true, true_and, and_false, false_and, if_true, if_false, not_true_eq_false, not_false_eq_true, ne_eq, true_or, or_true, or_false, false_or, or_self, reduceCtorEq, Nat.reduceEqDiff, Int.reduceEq, Int.reduceLT, Int.reduceLE, Int.reduceAdd, Int.reduceSub, Int.reduceNeg, ↓reduceIte, if_n, i3_ite, fX7_textAt, e0, e1, eb] <;> omega) | assumption | omega) ?_)); try dsimp only
                      refine rn_c (by simp (disch := omega) only [obs, i3_lit, i3_neg, i3_add, i3_sub, i3_mul, i3_lt, i3_le, i3_eq, i3_inb, i3_nat, b3_0, Classical.not_not, i6_lit, i6_neg, i6_add, i6_sub, i6_mul, i3_l, p_ki, p_kl, p_kr, p_ni, p_nl, p_ri, p_rl, p_dwi, p_dwl, p_dwr, p_fwi, p_fwl, p_iwi, p_iwl, p_iwr, p_lwi, p_lwl, p_lwr, p_rwi, p_rwl, p_rwr, p_kwi, p_kwl, p_kwr, p_zwi, p_zwl, p_zwr, p_swi, p_swl, p_swr, and_self, and_true, true_and, and_false, false_and, if_true, if_false, not_true_eq_false, not_false_eq_true, ne_eq, true_or, or_true, or_false, false_or, or_self, reduceCtorEq, Nat.reduceEqDiff, Int.reduceEq, Int.reduceLT, Int.reduceLE, Int.reduceAdd, Int.reduceSub, Int.reduceNeg, ↓reduceIte, if_n, i3_ite, eb, e0, e1, p18, pa, i6_eq] <;> exact rfl) ?_
                      exact next (rAr R t k) n _ hf (by omega) (by omega) (Or.inl ⟨h36, a :: l, by rw [List.length_cons]; omega, by omega, hp, hrn⟩)
                    · rw [if_neg pk] at hrn
                      cases hrn
                  · rw [if_neg pa] at hrn
                    repeat (first | (with_reducible refine rn_b (by simp (disch := omega) only [obs, i3_lit, i3_neg, i3_add, i3_sub, i3_mul, i3_lt, i3_le, i3_eq, i3_inb, i3_nat, b3_0, Classical.not_not, i6_lit, i6_neg, i6_add, i6_sub, i6_mul, i3_l, p_ki, p_kl, p_kr, p_ni, p_nl, p_ri, p_rl, p_dwi, p_dwl, p_dwr, p_fwi, p_fwl, p_iwi, p_iwl, p_iwr, p_lwi, p_lwl, p_lwr, p_rwi, p_rwl, p_rwr, p_kwi, p_kwl, p_kwr, p_zwi, p_zwl, p_zwr, p_swi, p_swl, p_swr, and_self, and_true, true_and, and_false, false_and, if_true, if_false, not_true_eq_false, not_false_eq_true, ne_eq, true_or, or_true, or_false, false_or, or_self, reduceCtorEq, Nat.reduceEqDiff, Int.reduceEq, Int.reduceLT, Int.reduceLE, Int.reduceAdd, Int.reduceSub, Int.reduceNeg, ↓reduceIte, if_n, i3_ite, fX7_textAt, e0, e1, eb] <;> exact rfl) ?_) | (with_reducible refine rn_t (by first | (simp (disch := omega) only [obs, i3_lit, i3_neg, i3_add, i3_sub, i3_mul, i3_lt, i3_le, i3_eq, i3_inb, i3_nat, b3_0, Classical.not_not, i6_lit, i6_neg, i6_add, i6_sub, i6_mul, i3_l, p_ki, p_kl, p_kr, p_ni, p_nl, p_ri, p_rl, p_dwi, p_dwl, p_dwr, p_fwi, p_fwl, p_iwi, p_iwl, p_iwr, p_lwi, p_lwl, p_lwr, p_rwi, p_rwl, p_rwr, p_kwi, p_kwl, p_kwr, p_zwi, p_zwl, p_zwr, p_swi, p_swl, p_swr, and_self, and_true, true_and, and_false, false_and, if_true, if_false, not_true_eq_false, not_false_eq_true, ne_eq, true_or, or_true, or_false, false_or, or_self, reduceCtorEq, Nat.reduceEqDiff, Int.reduceEq, Int.reduceLT, Int.reduceLE, Int.reduceAdd, Int.reduceSub, Int.reduceNeg, ↓reduceIte, if_n, i3_ite, fX7_textAt, e0, e1, eb] <;> omega) | assumption | omega) ?_) | (with_reducible refine rn_f (by first | (simp (disch := omega) only [obs, i3_lit, i3_neg, i3_add, i3_sub, i3_mul, i3_lt, i3_le, i3_eq, i3_inb, i3_nat, b3_0, Classical.not_not, i6_lit, i6_neg, i6_add, i6_sub, i6_mul, i3_l, p_ki, p_kl, p_kr, p_ni, p_nl, p_ri, p_rl, p_dwi, p_dwl, p_dwr, p_fwi, p_fwl, p_iwi, p_iwl, p_iwr, p_lwi, p_lwl, p_lwr, p_rwi, p_rwl, p_rwr, p_kwi, p_kwl, p_kwr, p_zwi, p_zwl, p_zwr, p_swi, p_swl, p_swr, and_self, and_true, true_and, and_false, false_and, if_true, if_false, not_true_eq_false, not_false_eq_true, ne_eq, true_or, or_true, or_false, false_or, or_self, reduceCtorEq, Nat.reduceEqDiff, Int.reduceEq, Int.reduceLT, Int.reduceLE, Int.reduceAdd, Int.reduceSub, Int.reduceNeg, ↓reduceIte, if_n, i3_ite, fX7_textAt, e0, e1, eb] <;> omega) | assumption | omega) ?_)); try dsimp only
                    refine rn_c (by simp (disch := omega) only [obs, i3_lit, i3_neg, i3_add, i3_sub, i3_mul, i3_lt, i3_le, i3_eq, i3_inb, i3_nat, b3_0, Classical.not_not, i6_lit, i6_neg, i6_add, i6_sub, i6_mul, i3_l, p_ki, p_kl, p_kr, p_ni, p_nl, p_ri, p_rl, p_dwi, p_dwl, p_dwr, p_fwi, p_fwl, p_iwi, p_iwl, p_iwr, p_lwi, p_lwl, p_lwr, p_rwi, p_rwl, p_rwr, p_kwi, p_kwl, p_kwr, p_zwi, p_zwl, p_zwr, p_swi, p_swl, p_swr, and_self, and_true, true_and, and_false, false_and, if_true, if_false, not_true_eq_false, not_false_eq_true, ne_eq, true_or, or_true, or_false, false_or, or_self, reduceCtorEq, Nat.reduceEqDiff, Int.reduceEq, Int.reduceLT, Int.reduceLE, Int.reduceAdd, Int.reduceSub, Int.reduceNeg, ↓reduceIte, if_n, i3_ite, eb, e0, e1, p18, pa, i6_eq] <;> exact rfl) ?_
                    exact next (k + 1) (n + -1) _ hf (by omega) (by omega) (Or.inl ⟨h36, l, by omega, by omega, hp1, hrn⟩)
  · subst hrn
    by_cases g : last ≤ k
    · by_cases z : n = 0
      · repeat (first | (with_reducible refine rn_b (by simp (disch := omega) only [obs, i3_lit, i3_neg, i3_add, i3_sub, i3_mul, i3_lt, i3_le, i3_eq, i3_inb, i3_nat, b3_0, Classical.not_not, i6_lit, i6_neg, i6_add, i6_sub, i6_mul, i3_l, p_ki, p_kl, p_kr, p_ni, p_nl, p_ri, p_rl, p_dwi, p_dwl, p_dwr, p_fwi, p_fwl, p_iwi, p_iwl, p_iwr, p_lwi, p_lwl, p_lwr, p_rwi, p_rwl, p_rwr, p_kwi, p_kwl, p_kwr, p_zwi, p_zwl, p_zwr, p_swi, p_swl, p_swr, and_self, and_true, true_and, and_false, false_and, if_true, if_false, not_true_eq_false, not_false_eq_true, ne_eq, true_or, or_true, or_false, false_or, or_self, reduceCtorEq, Nat.reduceEqDiff, Int.reduceEq, Int.reduceLT, Int.reduceLE, Int.reduceAdd, Int.reduceSub, Int.reduceNeg, ↓reduceIte, if_n, i3_ite] <;> exact rfl) ?_) | (with_reducible refine rn_t (by first | (simp (disch := omega) only [obs, i3_lit, i3_neg, i3_add, i3_sub, i3_mul, i3_lt, i3_le, i3_eq, i3_inb, i3_nat, b3_0, Classical.not_not, i6_lit, i6_neg, i6_add, i6_sub, i6_mul, i3_l, p_ki, p_kl, p_kr, p_ni, p_nl, p_ri, p_rl, p_dwi, p_dwl, p_dwr, p_fwi, p_fwl, p_iwi, p_iwl, p_iwr, p_lwi, p_lwl, p_lwr, p_rwi, p_rwl, p_rwr, p_kwi, p_kwl, p_kwr, p_zwi, p_zwl, p_zwr, p_swi, p_swl, p_swr, and_self, and_true, true_and, and_false, false_and, if_true, if_false, not_true_eq_false, not_false_eq_true, ne_eq, true_or, or_true, or_false, false_or, or_self, reduceCtorEq, Nat.reduceEqDiff, Int.reduceEq, Int.reduceLT, Int.reduceLE, Int.reduceAdd, Int.reduceSub, Int.reduceNeg, ↓reduceIte, if_n, i3_ite] <;> omega) | assumption | omega) ?_) | (with_reducible refine rn_f (by first | (simp (disch := omega) only [obs, i3_lit, i3_neg, i3_add, i3_sub, i3_mul, i3_lt, i3_le, i3_eq, i3_inb, i3_nat, b3_0, Classical.not_not, i6_lit, i6_neg, i6_add, i6_sub, i6_mul, i3_l, p_ki, p_kl, p_kr, p_ni, p_nl, p_ri, p_rl, p_dwi, p_dwl, p_dwr, p_fwi, p_fwl, p_iwi, p_iwl, p_iwr, p_lwi, p_lwl, p_lwr, p_rwi, p_rwl, p_rwr, p_kwi, p_kwl, p_kwr, p_zwi, p_zwl, p_zwr, p_swi, p_swl, p_swr, and_self, and_true, true_and, and_false, false_and, if_true, if_false, not_true_eq_false, not_false_eq_true, ne_eq, true_or, or_true, or_false, false_or, or_self, reduceCtorEq, Nat.reduceEqDiff, Int.reduceEq, Int.reduceLT, Int.reduceLE, Int.reduceAdd, Int.reduceSub, Int.reduceNeg, ↓reduceIte, if_n, i3_ite] <;> omega) | assumption | omega) ?_) | (unfold fX7_run_J314)); try dsimp only
        exact Or.inr ⟨_, rfl, fr_wl hf rfl, h36, fun w q => by cases q⟩
      · repeat (first | (with_reducible refine rn_b (by simp (disch := omega) only [obs, i3_lit, i3_neg, i3_add, i3_sub, i3_mul, i3_lt, i3_le, i3_eq, i3_inb, i3_nat, b3_0, Classical.not_not, i6_lit, i6_neg, i6_add, i6_sub, i6_mul, i3_l, p_ki, p_kl, p_kr, p_ni, p_nl, p_ri, p_rl, p_dwi, p_dwl, p_dwr, p_fwi, p_fwl, p_iwi, p_iwl, p_iwr, p_lwi, p_lwl, p_lwr, p_rwi, p_rwl, p_rwr, p_kwi, p_kwl, p_kwr, p_zwi, p_zwl, p_zwr, p_swi, p_swl, p_swr, and_self, and_true, true_and, and_false, false_and, if_true, if_false, not_true_eq_false, not_false_eq_true, ne_eq, true_or, or_true, or_false, false_or, or_self, reduceCtorEq, Nat.reduceEqDiff, Int.reduceEq, Int.reduceLT, Int.reduceLE, Int.reduceAdd, Int.reduceSub, Int.reduceNeg, ↓reduceIte, if_n, i3_ite] <;> exact rfl) ?_) | (with_reducible refine rn_t (by first | (simp (disch := omega) only [obs, i3_lit, i3_neg, i3_add, i3_sub, i3_mul, i3_lt, i3_le, i3_eq, i3_inb, i3_nat, b3_0, Classical.not_not, i6_lit, i6_neg, i6_add, i6_sub, i6_mul, i3_l, p_ki, p_kl, p_kr, p_ni, p_nl, p_ri, p_rl, p_dwi, p_dwl, p_dwr, p_fwi, p_fwl, p_iwi, p_iwl, p_iwr, p_lwi, p_lwl, p_lwr, p_rwi, p_rwl, p_rwr, p_kwi, p_kwl, p_kwr, p_zwi, p_zwl, p_zwr, p_swi, p_swl, p_swr, and_self, and_true, true_and, and_false, false_and, if_true, if_false, not_true_eq_false, not_false_eq_true, ne_eq, true_or, or_true, or_false, false_or, or_self, reduceCtorEq, Nat.reduceEqDiff, Int.reduceEq, Int.reduceLT, Int.reduceLE, Int.reduceAdd, Int.reduceSub, Int.reduceNeg, ↓reduceIte, if_n, i3_ite] <;> omega) | assumption | omega) ?_) | (with_reducible refine rn_f (by first | (simp (disch := omega) only [obs, i3_lit, i3_neg, i3_add, i3_sub, i3_mul, i3_lt, i3_le, i3_eq, i3_inb, i3_nat, b3_0, Classical.not_not, i6_lit, i6_neg, i6_add, i6_sub, i6_mul, i3_l, p_ki, p_kl, p_kr, p_ni, p_nl, p_ri, p_rl, p_dwi, p_dwl, p_dwr, p_fwi, p_fwl, p_iwi, p_iwl, p_iwr, p_lwi, p_lwl, p_lwr, p_rwi, p_rwl, p_rwr, p_kwi, p_kwl, p_kwr, p_zwi, p_zwl, p_zwr, p_swi, p_swl, p_swr, and_self, and_true, true_and, and_false, false_and, if_true, if_false, not_true_eq_false, not_false_eq_true, ne_eq, true_or, or_true, or_false, false_or, or_self, reduceCtorEq, Nat.reduceEqDiff, Int.reduceEq, Int.reduceLT, Int.reduceLE, Int.reduceAdd, Int.reduceSub, Int.reduceNeg, ↓reduceIte, if_n, i3_ite] <;> omega) | assumption | omega) ?_) | (unfold fX7_run_J314)); try dsimp only
        exact Or.inr ⟨_, rfl, fr_wl hf rfl, h36, fun w q => by cases q⟩
    · by_cases z : n = 0
      · repeat (first | (with_reducible refine rn_b (by simp (disch := omega) only [obs, i3_lit, i3_neg, i3_add, i3_sub, i3_mul, i3_lt, i3_le, i3_eq, i3_inb, i3_nat, b3_0, Classical.not_not, i6_lit, i6_neg, i6_add, i6_sub, i6_mul, i3_l, p_ki, p_kl, p_kr, p_ni, p_nl, p_ri, p_rl, p_dwi, p_dwl, p_dwr, p_fwi, p_fwl, p_iwi, p_iwl, p_iwr, p_lwi, p_lwl, p_lwr, p_rwi, p_rwl, p_rwr, p_kwi, p_kwl, p_kwr, p_zwi, p_zwl, p_zwr, p_swi, p_swl, p_swr, and_self, and_true, true_and, and_false, false_and, if_true, if_false, not_true_eq_false, not_false_eq_true, ne_eq, true_or, or_true, or_false, false_or, or_self, reduceCtorEq, Nat.reduceEqDiff, Int.reduceEq, Int.reduceLT, Int.reduceLE, Int.reduceAdd, Int.reduceSub, Int.reduceNeg, ↓reduceIte, if_n, i3_ite, h36] <;> exact rfl) ?_) | (with_reducible refine rn_t (by first | (simp (disch := omega) only [obs, i3_lit, i3_neg, i3_add, i3_sub, i3_mul, i3_lt, i3_le, i3_eq, i3_inb, i3_nat, b3_0, Classical.not_not, i6_lit, i6_neg, i6_add, i6_sub, i6_mul, i3_l, p_ki, p_kl, p_kr, p_ni, p_nl, p_ri, p_rl, p_dwi, p_dwl, p_dwr, p_fwi, p_fwl, p_iwi, p_iwl, p_iwr, p_lwi, p_lwl, p_lwr, p_rwi, p_rwl, p_rwr, p_kwi, p_kwl, p_kwr, p_zwi, p_zwl, p_zwr, p_swi, p_swl, p_swr, and_self, and_true, true_and, and_false, false_and, if_true, if_false, not_true_eq_false, not_false_eq_true, ne_eq, true_or, or_true, or_false, false_or, or_self, reduceCtorEq, Nat.reduceEqDiff, Int.reduceEq, Int.reduceLT, Int.reduceLE, Int.reduceAdd, Int.reduceSub, Int.reduceNeg, ↓reduceIte, if_n, i3_ite, h36] <;> omega) | assumption | omega) ?_) | (with_reducible refine rn_f (by first | (simp (disch := omega) only [obs, i3_lit, i3_neg, i3_add, i3_sub, i3_mul, i3_lt, i3_le, i3_eq, i3_inb, i3_nat, b3_0, Classical.not_not, i6_lit, i6_neg, i6_add, i6_sub, i6_mul, i3_l, p_ki, p_kl, p_kr, p_ni, p_nl, p_ri, p_rl, p_dwi, p_dwl, p_dwr, p_fwi, p_fwl, p_iwi, p_iwl, p_iwr, p_lwi, p_lwl, p_lwr, p_rwi, p_rwl, p_rwr, p_kwi, p_kwl, p_kwr, p_zwi, p_zwl, p_zwr, p_swi, p_swl, p_swr, and_self, and_true, true_and, and_false, false_and, if_true, if_false, not_true_eq_false, not_false_eq_true, ne_eq, true_or, or_true, or_false, false_or, or_self, reduceCtorEq, Nat.reduceEqDiff, Int.reduceEq, Int.reduceLT, Int.reduceLE, Int.reduceAdd, Int.reduceSub, Int.reduceNeg, ↓reduceIte, if_n, i3_ite, h36] <;> omega) | assumption | omega) ?_) | (unfold fX7_run_J314)); try dsimp only
        exact Or.inr ⟨_, rfl, fr_wl hf rfl, h36, fun w q => by cases q⟩
      · repeat (first | (with_reducible refine rn_b (by simp (disch := omega) only [obs, i3_lit, i3_neg, i3_add, i3_sub, i3_mul, i3_lt, i3_le, i3_eq, i3_inb, i3_nat, b3_0, Classical.not_not, i6_lit, i6_neg, i6_add, i6_sub, i6_mul, i3_l, p_ki, p_kl, p_kr, p_ni, p_nl, p_ri, p_rl, p_dwi, p_dwl, p_dwr, p_fwi, p_fwl, p_iwi, p_iwl, p_iwr, p_lwi, p_lwl, p_lwr, p_rwi, p_rwl, p_rwr, p_kwi, p_kwl, p_kwr, p_zwi, p_zwl, p_zwr, p_swi, p_swl, p_swr, and_self, and_true, true_and, and_false, false_and, if_true, if_false, not_true_eq_false, not_false_eq_true, ne_eq, true_or, or_true, or_false, false_or, or_self, reduceCtorEq, Nat.reduceEqDiff, Int.reduceEq, Int.reduceLT, Int.reduceLE, Int.reduceAdd, Int.reduceSub, Int.reduceNeg, ↓reduceIte, if_n, i3_ite, h36] <;> exact rfl) ?_) | (with_reducible refine rn_t (by first | (simp (disch := omega) only [obs, i3_lit, i3_neg, i3_add, i3_sub, i3_mul, i3_lt, i3_le, i3_eq, i3_inb, i3_nat, b3_0, Classical.not_not, i6_lit, i6_neg, i6_add, i6_sub, i6_mul, i3_l, p_ki, p_kl, p_kr, p_ni, p_nl, p_ri, p_rl, p_dwi, p_dwl, p_dwr, p_fwi, p_fwl, p_iwi, p_iwl, p_iwr, p_lwi, p_lwl, p_lwr, p_rwi, p_rwl, p_rwr, p_kwi, p_kwl, p_kwr, p_zwi, p_zwl, p_zwr, p_swi, p_swl, p_swr, and_self, and_true, true_and, and_false, false_and, if_true, if_false, not_true_eq_false, not_false_eq_true, ne_eq, true_or, or_true, or_false, false_or, or_self, reduceCtorEq, Nat.reduceEqDiff, Int.reduceEq, Int.reduceLT, Int.reduceLE, Int.reduceAdd, Int.reduceSub, Int.reduceNeg, ↓reduceIte, if_n, i3_ite, h36] <;> omega) | assumption | omega) ?_) | (with_reducible refine rn_f (by first | (simp (disch := omega) only [obs, i3_lit, i3_neg, i3_add, i3_sub, i3_mul, i3_lt, i3_le, i3_eq, i3_inb, i3_nat, b3_0, Classical.not_not, i6_lit, i6_neg, i6_add, i6_sub, i6_mul, i3_l, p_ki, p_kl, p_kr, p_ni, p_nl, p_ri, p_rl, p_dwi, p_dwl, p_dwr, p_fwi, p_fwl, p_iwi, p_iwl, p_iwr, p_lwi, p_lwl, p_lwr, p_rwi, p_rwl, p_rwr, p_kwi, p_kwl, p_kwr, p_zwi, p_zwl, p_zwr, p_swi, p_swl, p_swr, and_self, and_true, true_and, and_false, false_and, if_true, if_false, not_true_eq_false, not_false_eq_true, ne_eq, true_or, or_true, or_false, false_or, or_self, reduceCtorEq, Nat.reduceEqDiff, Int.reduceEq, Int.reduceLT, Int.reduceLE, Int.reduceAdd, Int.reduceSub, Int.reduceNeg, ↓reduceIte, if_n, i3_ite, h36] <;> omega) | assumption | omega) ?_) | (unfold fX7_run_J314)); try dsimp only
        exact Or.inr ⟨_, rfl, fr_wl hf rfl, h36, fun w q => by cases q⟩
end
