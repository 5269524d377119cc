/-! THE PLAIN LAW: readers of both sides; the days of a reading -/
section
variable {R : Int → Int} {A : Nat → Int → Nat} {M : Nat → Nat} {Im : Nat → Prop} {σ : Sg}
def Cmp (R : Int → Int) (A : Nat → Int → Nat) (M : Nat → Nat) (Im : Nat → Prop) (σ : Sg) : Prop := Tld R A M Im σ ∧ Vld R ∧ ∀ c, Im c → 93 ≤ c
abbrev Mrw (R : Int → Int) (σ : Sg) : Prop := ∀ z : Int, 0 ≤ z → gi σ 61 z.toNat = i3 (R z)
theorem cmp_fr {τ : Sg} (h : Cmp R A M Im σ) {b : Nat} {fs cs : List Nat} (k : Frm b fs cs σ τ) (g : tok b cs = true) : Cmp R A M Im τ := ⟨tld_fr h.2.2 h.1 k g, h.2⟩
theorem x0_isPlace (h : Cmp R A M Im σ) {p : Int} (hp : -2147483648 ≤ p ∧ p < 2147483648) : fX0_isPlace (i3 p) σ = some (b3 (0 ≤ p ∧ p ≤ R 0 - 1)) := by
  have := h.2.1.1
  simp (disch := omega) only [fX0_isPlace, h.1.1.1, i3_lit, i3_sub, x0_in, obs, b3_ok, if_true]
theorem x0_isSource (h : Cmp R A M Im σ) {p : Int} (hp : -2147483648 ≤ p ∧ p < 2147483648) : fX0_isSource (i3 p) σ = some (b3 (0 ≤ p ∧ p ≤ R 1 - 1)) := by
  have := h.2.1.2.1
  simp (disch := omega) only [fX0_isSource, h.1.1.2, i3_lit, i3_sub, x0_in, obs, b3_ok, if_true]
theorem x0_isDesk {p : Int} (hp : -2147483648 ≤ p ∧ p < 2147483648) : fX0_isDesk (i3 p) = some (b3 (0 ≤ p ∧ p ≤ 9999)) := by
  simp (disch := omega) only [fX0_isDesk, i3_lit, x0_in, obs, b3_ok, if_true]
theorem x0_isReading (h : Cmp R A M Im σ) {p : Int} (hp : -2147483648 ≤ p ∧ p < 2147483648) : fX0_isReading (i3 p) σ = some (b3 (0 ≤ p ∧ p ≤ R 2 - 1)) := by
  have := h.2.1.2.2.1
  simp (disch := omega) only [fX0_isReading, xJ_size h.1.2.1.1, i3_lit, i3_lt, i3_le, obs]
  unfold b3
  grind
/-- all of a reading -/
theorem rd_all (h : Cmp R A M Im σ) {r : Int} (hr : 0 ≤ r ∧ r < R 2) : (17 ≤ kk σ (A 2 r) ∧ kk σ (A 2 r) ≤ 21) ∧ Trd R A σ r ∧ Vrd R r ∧ Tso R σ (rG R r 1) ∧ Vso R (rG R r 1) ∧ Tpl R σ (rAt R (rG R r 1)) ∧ Vpl R (rAt R (rG R r 1)) ∧ (0 ≤ R 0 ∧ R 0 ≤ 12) ∧ (0 ≤ R 1 ∧ R 1 ≤ 16) ∧ (0 ≤ R 2 ∧ R 2 ≤ 200) := by
  obtain ⟨⟨_, _, hp, hs, hrd, _⟩, ⟨v0, v1, v2, _, _, _, vp, vs, vr, _⟩, _⟩ := h
  have a := (hrd r hr.1 hr.2).2
  have b := vr r hr.1 hr.2
  have c := b.2.1
  have d := vs _ c.1 c.2
  refine ⟨?_, a, b, hs _ c.1 c.2, d, hp _ d.2.1.1 d.2.1.2, vp _ d.2.1.1 d.2.1.2, v0, v1, v2⟩
  have := a.2.1
  have := b.1
  omega
/-! the Model's readers -/
theorem x7_isPlace (h : Mrw R σ) (v : Vld R) {p : Int} (hp : -2147483648 ≤ p ∧ p < 2147483648) : fX7_isPlace (i3 p) σ = some (b3 (0 ≤ p ∧ p ≤ R 0 - 1)) := by
  have := v.1
  simp (disch := omega) only [fX7_isPlace, show gi σ 61 0 = i3 (R 0) from h 0 (by omega), i6_lit, i3_l, i6_sub, x7_in, obs, b3_ok, if_true]
theorem x7_isSource (h : Mrw R σ) (v : Vld R) {p : Int} (hp : -2147483648 ≤ p ∧ p < 2147483648) : fX7_isSource (i3 p) σ = some (b3 (0 ≤ p ∧ p ≤ R 1 - 1)) := by
  have := v.2.1
  simp (disch := omega) only [fX7_isSource, show gi σ 61 1 = i3 (R 1) from h 1 (by omega), i6_lit, i3_l, i6_sub, x7_in, obs, b3_ok, if_true]
theorem x7_isReading (h : Mrw R σ) (v : Vld R) {p : Int} (hp : -2147483648 ≤ p ∧ p < 2147483648) : fX7_isReading (i3 p) σ = some (b3 (0 ≤ p ∧ p ≤ R 2 - 1)) := by
  have := v.2.2.1
  simp (disch := omega) only [fX7_isReading, show gi σ 61 2 = i3 (R 2) from h 2 (by omega), i6_lit, i3_l, i6_sub, x7_in, obs, b3_ok, if_true]
theorem x7_isKnown {p : Int} (hp : -2147483648 ≤ p ∧ p < 2147483648) : fX7_isKnown (i3 p) = some (b3 (0 ≤ p ∧ p ≤ 9999)) := by
  simp (disch := omega) only [fX7_isKnown, i6_lit, i3_l, x7_in, obs, b3_ok, if_true]
theorem x7_get (h : Mrw R σ) {r j : Int} (hr : 0 ≤ r ∧ r < 200) (hj : 0 ≤ j ∧ j ≤ 8) : fX7_get (i3 r) (i3 j) σ = some (i3 (rG R r j)) := by
  simp (disch := omega) only [fX7_get, i3_lit, i3_mul, i3_add, i3_inb, i3_nat, h _]
  rw [if_pos (by omega)]
theorem x7_sourceOf (h : Mrw R σ) {r : Int} (hr : 0 ≤ r ∧ r < 200) : fX7_sourceOf (i3 r) σ = some (i3 (rG R r 1)) := by
  simp (disch := omega) only [fX7_sourceOf, i3_lit, x7_get h hr, obs]
theorem x7_placeOf (h : Mrw R σ) {s : Int} (hr : 0 ≤ s ∧ s < 16) : fX7_placeOf (i3 s) σ = some (i3 (rAt R s)) := by
  simp (disch := omega) only [fX7_placeOf, i3_lit, i3_mul, i3_add, i3_inb, i3_nat, h _]
  rw [if_pos (by omega)]
theorem x7_handOf (h : Mrw R σ) {s : Int} (hr : 0 ≤ s ∧ s < 16) : fX7_handOf (i3 s) σ = some (i3 (rHand R s)) := by
  simp (disch := omega) only [fX7_handOf, i3_lit, i3_mul, i3_add, i3_inb, i3_nat, h _]
  rw [if_pos (by omega)]
theorem x7_at (h : Mrw R σ) (v : Vld R) {r : Int} (hr : 0 ≤ r ∧ r < R 2) : fX7_at (i3 r) σ = some (i3 (rAt R (rG R r 1))) := by
  have h1 := v.2.2.1
  have h2 := (v.2.2.2.2.2.2.2.2.1 r hr.1 hr.2).2.1
  have h3 := v.2.1
  simp (disch := omega) only [fX7_at, x7_sourceOf h, x7_placeOf h, obs]
theorem x7_likeOf (h : Mrw R σ) {a b : Int} (ha : 0 ≤ a ∧ a < 12) (hb : 0 ≤ b ∧ b < 12) : fX7_likeOf (i3 a) (i3 b) σ = some (i3 (rLik R a b)) := by
  simp (disch := omega) only [fX7_likeOf, fX7_placeAt, obs, i3_lit, i3_mul, i3_add, i3_inb, i3_nat, h _]
  rw [if_pos (by omega)]
/-! days -/
def dA (R : Int → Int) (r : Int) : Int := if cDt (rG R r 2) (rG R r 3) (rG R r 4) 1 ∧ cDay (dOf (rG R r 2) (rG R r 3) (rG R r 4) 1) ∧ (rTurn R (rG R r 1) = -1 ∨ rTurn R (rG R r 1) ≤ dOf (rG R r 2) (rG R r 3) (rG R r 4) 1) then dOf (rG R r 2) (rG R r 3) (rG R r 4) 1 else -1
def dB (R : Int → Int) (r : Int) : Int := if cDt (rG R r 2) (rG R r 3) (rG R r 4) 0 ∧ cDay (dOf (rG R r 2) (rG R r 3) (rG R r 4) 0) ∧ (rTurn R (rG R r 1) = -1 ∨ dOf (rG R r 2) (rG R r 3) (rG R r 4) 0 < rTurn R (rG R r 1)) then dOf (rG R r 2) (rG R r 3) (rG R r 4) 0 else -1
def d1 (R : Int → Int) (r : Int) : Int := if dA R r ≠ -1 then dA R r else dB R r
def d2 (R : Int → Int) (r : Int) : Int := if dA R r = -1 ∨ dB R r = dA R r then -1 else dB R r
theorem dA_eq (R : Int → Int) (r : Int) : dA R r = if cDt (rG R r 2) (rG R r 3) (rG R r 4) 1 ∧ cDay (dOf (rG R r 2) (rG R r 3) (rG R r 4) 1) ∧ (rTurn R (rG R r 1) = -1 ∨ rTurn R (rG R r 1) ≤ dOf (rG R r 2) (rG R r 3) (rG R r 4) 1) then dOf (rG R r 2) (rG R r 3) (rG R r 4) 1 else -1 := rfl
theorem dB_eq (R : Int → Int) (r : Int) : dB R r = if cDt (rG R r 2) (rG R r 3) (rG R r 4) 0 ∧ cDay (dOf (rG R r 2) (rG R r 3) (rG R r 4) 0) ∧ (rTurn R (rG R r 1) = -1 ∨ dOf (rG R r 2) (rG R r 3) (rG R r 4) 0 < rTurn R (rG R r 1)) then dOf (rG R r 2) (rG R r 3) (rG R r 4) 0 else -1 := rfl
theorem dA_b (r : Int) : -1 ≤ dA R r ∧ dA R r ≤ 109999 := by
  unfold dA
  split <;> omega
theorem dB_b (r : Int) : -1 ≤ dB R r ∧ dB R r ≤ 109999 := by
  unfold dB
  split <;> omega
theorem d1_b (r : Int) : -1 ≤ d1 R r ∧ d1 R r ≤ 109999 := by
  have := dA_b (R := R) r
  have := dB_b (R := R) r
  unfold d1
  split <;> omega
theorem d2_b (r : Int) : -1 ≤ d2 R r ∧ d2 R r ≤ 109999 := by
  have := dB_b (R := R) r
  unfold d2
  split <;> omega
theorem dOf_b {y m e c : Int} (hy : 1600 ≤ y ∧ y ≤ 1901) (hm : 1 ≤ m ∧ m ≤ 12) (he : 1 ≤ e ∧ e ≤ 31) : 0 ≤ dOf y m e c ∧ dOf y m e c ≤ 120000 := by
  have hb := cYB_b (y := y) (c := c) (by omega)
  have hk2 := cMS_b y c (m - 1).toNat
  unfold dOf
  omega
theorem x0_dates_J144 {r t a b a' b' : Int} (hr : 0 ≤ r ∧ r < 200) (ht : -1 ≤ t ∧ t ≤ 110000) (ha : -1 ≤ a ∧ a ≤ 120000) (hb : -1 ≤ b ∧ b ≤ 120000) (ea : a' = if cDay a ∧ (t = -1 ∨ t ≤ a) then a else -1) (eb : b' = if cDay b ∧ (t = -1 ∨ b < t) then b else -1) (rec : Int32 × Sg → Option Sg) : fX0_dates_J144 (i3 r) (i3 t) (i3 a) (i3 b) rec σ = rec (i3 (r + 1), wi (wi σ 25 r.toNat (i3 (if a' ≠ -1 then a' else b'))) 26 r.toNat (i3 (if a' = -1 ∨ b' = a' then -1 else b'))) := by
  have e1 : (if b3 (cDay a) = 0 then (-1 : Int32) else if i3 t = -1 then i3 a else if i3 t ≤ i3 a then i3 a else -1) = i3 a' := by
    simp (disch := omega) only [i3_lit, i3_neg, b3_0, i3_eq, i3_le, i3_ite]
    grind
  have ha' : -1 ≤ a' ∧ a' ≤ 120000 := by grind
  have e2 : (if b3 (cDay b) = 0 then (-1 : Int32) else if i3 t = -1 then (if i3 a' ≠ i3 b then i3 b else -1) else if i3 t ≤ i3 b then -1 else if i3 a' ≠ i3 b then i3 b else -1) = i3 (if a' = b then -1 else b') := by
    simp (disch := omega) only [i3_lit, i3_neg, b3_0, i3_eq, i3_le, i3_ite, ne_eq]
    clear e1
    grind
  have hb' : -1 ≤ b' ∧ b' ≤ 120000 := by grind
  have e3 : (if i3 a' = (-1 : Int32) then i3 (if a' = b then -1 else b') else i3 a') = i3 (if a' ≠ -1 then a' else b') := by
    simp (disch := omega) only [i3_lit, i3_neg, i3_eq, i3_ite]
    clear e1 e2
    grind
  have e4 : (if i3 a' = (-1 : Int32) then (-1 : Int32) else i3 (if a' = b then -1 else b')) = i3 (if a' = -1 ∨ b' = a' then -1 else b') := by
    simp (disch := omega) only [i3_lit, i3_neg, i3_eq, i3_ite]
    clear e1 e2 e3
    grind
  have e5 : inb (i3 r) 200 := by rw [i3_inb (by omega)]; omega
  simp only [fX0_dates_J144, x0_isDay (show -2147483648 ≤ a ∧ a < 2147483648 by omega), x0_isDay (show -2147483648 ≤ b ∧ b < 2147483648 by omega), obs, e1, e2, e3, e4, if_pos e5]
  rw [i3_nat (by omega), i3_1, i3_add]
theorem x0_dates (h : Cmp R A M Im σ) : Ev (fX0_dates σ) (fun τ => Frm 0 [6] [25, 26] σ τ ∧ gi τ 0 6 = gi σ 0 1 ∧ (gi σ 0 6 ≠ gi σ 0 1 → ∀ i : Int, 0 ≤ i → i < R 2 → gi τ 25 i.toNat = i3 (d1 R i) ∧ gi τ 26 i.toNat = i3 (d2 R i)) ∧ (gi σ 0 6 = gi σ 0 1 → τ = σ)) := by
  unfold fX0_dates
  by_cases hv : gi σ 0 6 = gi σ 0 1
  · rw [if_neg (fun q => q hv), ev_some]
    exact ⟨fr_refl, hv, fun q => absurd hv q, fun _ => rfl⟩
  · rw [if_pos hv]
    have v2 := h.2.1.2.2.1
    refine rn_ev (rn_lp0 (fun k s => ∃ τ, s = (i3 k, τ) ∧ Frm 0 [6] [25, 26] σ τ ∧ gi τ 0 6 = gi σ 0 1 ∧ (k : Int) ≤ R 2 ∧ ∀ i : Int, 0 ≤ i → i < k → gi τ 25 i.toNat = i3 (d1 R i) ∧ gi τ 26 i.toNat = i3 (d2 R i)) 201 (by omega) ⟨_, rfl, fr_wi fr_refl rfl, by simp [p_iwi], by omega, fun i a b => by omega⟩ ?_)
    rintro k s rec ⟨τ, rfl, hf, h6, hk, hd⟩
    have hQ := cmp_fr h hf rfl
    have hl := hQ.1.2.1.1
    unfold fX0_dates_L22
    dsimp only
    by_cases g : R 2 ≤ k
    · repeat (first | (with_reducible refine rn_b (by simp (disch := omega) only [obs, i3_lit, i3_neg, i3_add, i3_sub, i3_mul, i3_lt, i3_le, i3_eq, i3_inb, i3_nat, b3_0, Classical.not_not, i6_lit, i6_neg, i6_add, i6_sub, i6_mul, i3_l, p_ki, p_kl, p_kr, p_ni, p_nl, p_ri, p_rl, p_dwi, p_dwl, p_dwr, p_fwi, p_fwl, p_iwi, p_iwl, p_iwr, p_lwi, p_lwl, p_lwr, p_rwi, p_rwl, p_rwr, p_kwi, p_kwl, p_kwr, p_zwi, p_zwl, p_zwr, p_swi, p_swl, p_swr, and_self, and_true, true_and, and_false, false_and, if_true, if_false, not_true_eq_false, not_false_eq_true, ne_eq, true_or, or_true, or_false, false_or, or_self, reduceCtorEq, Nat.reduceEqDiff, Int.reduceEq, Int.reduceLT, Int.reduceLE, Int.reduceAdd, Int.reduceSub, Int.reduceNeg, ↓reduceIte, if_n, i3_ite, xJ_size hl] <;> exact rfl) ?_) | (with_reducible refine rn_t (by first | (simp (disch := omega) only [obs, i3_lit, i3_neg, i3_add, i3_sub, i3_mul, i3_lt, i3_le, i3_eq, i3_inb, i3_nat, b3_0, Classical.not_not, i6_lit, i6_neg, i6_add, i6_sub, i6_mul, i3_l, p_ki, p_kl, p_kr, p_ni, p_nl, p_ri, p_rl, p_dwi, p_dwl, p_dwr, p_fwi, p_fwl, p_iwi, p_iwl, p_iwr, p_lwi, p_lwl, p_lwr, p_rwi, p_rwl, p_rwr, p_kwi, p_kwl, p_kwr, p_zwi, p_zwl, p_zwr, p_swi, p_swl, p_swr, and_self, and_true, true_and, and_false, false_and, if_true, if_false, not_true_eq_false, not_false_eq_true, ne_eq, true_or, or_true, or_false, false_or, or_self, reduceCtorEq, Nat.reduceEqDiff, Int.reduceEq, Int.reduceLT, Int.reduceLE, Int.reduceAdd, Int.reduceSub, Int.reduceNeg, ↓reduceIte, if_n, i3_ite, xJ_size hl] <;> omega) | assumption | omega) ?_) | (with_reducible refine rn_f (by first | (simp (disch := omega) only [obs, i3_lit, i3_neg, i3_add, i3_sub, i3_mul, i3_lt, i3_le, i3_eq, i3_inb, i3_nat, b3_0, Classical.not_not, i6_lit, i6_neg, i6_add, i6_sub, i6_mul, i3_l, p_ki, p_kl, p_kr, p_ni, p_nl, p_ri, p_rl, p_dwi, p_dwl, p_dwr, p_fwi, p_fwl, p_iwi, p_iwl, p_iwr, p_lwi, p_lwl, p_lwr, p_rwi, p_rwl, p_rwr, p_kwi, p_kwl, p_kwr, p_zwi, p_zwl, p_zwr, p_swi, p_swl, p_swr, and_self, and_true, true_and, and_false, false_and, if_true, if_false, not_true_eq_false, not_false_eq_true, ne_eq, true_or, or_true, or_false, false_or, or_self, reduceCtorEq, Nat.reduceEqDiff, Int.reduceEq, Int.reduceLT, Int.reduceLE, Int.reduceAdd, Int.reduceSub, Int.reduceNeg, ↓reduceIte, if_n, i3_ite, xJ_size hl] <;> omega) | assumption | omega) ?_)); try dsimp only
      exact Or.inr ⟨_, rfl, hf, h6, fun _ i a b => hd i a (by omega), fun q => absurd q hv⟩
    · obtain ⟨hkk, ht, hw, hs, hsv, -, -, -, v1, -⟩ := rd_all hQ (r := k) (by omega)
      obtain ⟨-, -, -, t1, t2, t3, t4, -, -, -, -⟩ := ht
      obtain ⟨-, w1, w2, w3, w4, -⟩ := hw
      have hs3 := hs.2.2.1
      have b1 := dOf_b (c := 1) w2 w3 w4
      have b0 := dOf_b (c := 0) w2 w3 w4
      have fin : ∀ a b, a = (if cDt (rG R k 2) (rG R k 3) (rG R k 4) 1 then dOf (rG R k 2) (rG R k 3) (rG R k 4) 1 else -1) → b = (if cDt (rG R k 2) (rG R k 3) (rG R k 4) 0 then dOf (rG R k 2) (rG R k 3) (rG R k 4) 0 else -1) → Rn (fX0_dates_J144 (i3 k) (i3 (rTurn R (rG R k 1))) (i3 a) (i3 b) rec τ) (fun v => (∃ s', v = rec s' ∧ k < 201 ∧ ∃ τ, s' = (i3 (k + 1 : Nat), τ) ∧ Frm 0 [6] [25, 26] σ τ ∧ gi τ 0 6 = gi σ 0 1 ∧ ((k + 1 : Nat) : Int) ≤ R 2 ∧ ∀ i : Int, 0 ≤ i → i < (k + 1 : Nat) → gi τ 25 i.toNat = i3 (d1 R i) ∧ gi τ 26 i.toNat = i3 (d2 R i)) ∨ Ev v (fun τ => Frm 0 [6] [25, 26] σ τ ∧ gi τ 0 6 = gi σ 0 1 ∧ (gi σ 0 6 ≠ gi σ 0 1 → ∀ i : Int, 0 ≤ i → i < R 2 → gi τ 25 i.toNat = i3 (d1 R i) ∧ gi τ 26 i.toNat = i3 (d2 R i)) ∧ (gi σ 0 6 = gi σ 0 1 → τ = σ))) := by
        intro a b ea eb
        have ha : -1 ≤ a ∧ a ≤ 120000 := by rw [ea]; split <;> omega
        have hb : -1 ≤ b ∧ b ≤ 120000 := by rw [eb]; split <;> omega
        rw [x0_dates_J144 (a' := dA R k) (b' := dB R k) (by omega) hsv.2.2.1 ha hb (by unfold dA; grind) (by unfold dB; grind) rec]
        refine Or.inl ⟨_, rfl, by omega, _, rfl, fr_wi (fr_wi hf rfl) rfl, h6, by omega, fun i a b => ?_⟩
        simp only [p_iwi, and_self, and_true, true_and, and_false, false_and, if_true, if_false, not_true_eq_false, not_false_eq_true, ne_eq, true_or, or_true, or_false, false_or, or_self, reduceCtorEq, Nat.reduceEqDiff, Int.reduceEq, Int.reduceLT, Int.reduceLE, Int.reduceAdd, Int.reduceSub, Int.reduceNeg, ↓reduceIte, if_n, i3_ite]
        by_cases e : i = k
        · subst e
          simp [d1, d2]
        · rw [if_neg (by omega), if_neg (by omega)]
          exact hd i a (by omega)
      by_cases c1 : cDt (rG R k 2) (rG R k 3) (rG R k 4) 1 <;> by_cases c0 : cDt (rG R k 2) (rG R k 3) (rG R k 4) 0
      · repeat (first | (with_reducible refine rn_b (by simp (disch := omega) only [obs, i3_lit, i3_neg, i3_add, i3_sub, i3_mul, i3_lt, i3_le, i3_eq, i3_inb, i3_nat, b3_0, Classical.not_not, i6_lit, i6_neg, i6_add, i6_sub, i6_mul, i3_l, p_ki, p_kl, p_kr, p_ni, p_nl, p_ri, p_rl, p_dwi, p_dwl, p_dwr, p_fwi, p_fwl, p_iwi, p_iwl, p_iwr, p_lwi, p_lwl, p_lwr, p_rwi, p_rwl, p_rwr, p_kwi, p_kwl, p_kwr, p_zwi, p_zwl, p_zwr, p_swi, p_swl, p_swr, and_self, and_true, true_and, and_false, false_and, if_true, if_false, not_true_eq_false, not_false_eq_true, ne_eq, true_or, or_true, or_false, false_or, or_self, reduceCtorEq, Nat.reduceEqDiff, Int.reduceEq, Int.reduceLT, Int.reduceLE, Int.reduceAdd, Int.reduceSub, Int.reduceNeg, ↓reduceIte, if_n, i3_ite, xJ_size hl, xJ_get hl, elrd hkk, t1, t2, t3, t4, hs3, x0_isDate, x0_dayAt] <;> exact rfl) ?_) | (with_reducible refine rn_t (by first | (simp (disch := omega) only [obs, i3_lit, i3_neg, i3_add, i3_sub, i3_mul, i3_lt, i3_le, i3_eq, i3_inb, i3_nat, b3_0, Classical.not_not, i6_lit, i6_neg, i6_add, i6_sub, i6_mul, i3_l, p_ki, p_kl, p_kr, p_ni, p_nl, p_ri, p_rl, p_dwi, p_dwl, p_dwr, p_fwi, p_fwl, p_iwi, p_iwl, p_iwr, p_lwi, p_lwl, p_lwr, p_rwi, p_rwl, p_rwr, p_kwi, p_kwl, p_kwr, p_zwi, p_zwl, p_zwr, p_swi, p_swl, p_swr, and_self, and_true, true_and, and_false, false_and, if_true, if_false, not_true_eq_false, not_false_eq_true, ne_eq, true_or, or_true, or_false, false_or, or_self, reduceCtorEq, Nat.reduceEqDiff, Int.reduceEq, Int.reduceLT, Int.reduceLE, Int.reduceAdd, Int.reduceSub, Int.reduceNeg, ↓reduceIte, if_n, i3_ite, xJ_size hl, xJ_get hl, elrd hkk, t1, t2, t3, t4, hs3, x0_isDate, x0_dayAt] <;> omega) | assumption | omega) ?_) | (with_reducible refine rn_f (by first | (simp (disch := omega) only [obs, i3_lit, i3_neg, i3_add, i3_sub, i3_mul, i3_lt, i3_le, i3_eq, i3_inb, i3_nat, b3_0, Classical.not_not, i6_lit, i6_neg, i6_add, i6_sub, i6_mul, i3_l, p_ki, p_kl, p_kr, p_ni, p_nl, p_ri, p_rl, p_dwi, p_dwl, p_dwr, p_fwi, p_fwl, p_iwi, p_iwl, p_iwr, p_lwi, p_lwl, p_lwr, p_rwi, p_rwl, p_rwr, p_kwi, p_kwl, p_kwr, p_zwi, p_zwl, p_zwr, p_swi, p_swl, p_swr, and_self, and_true, true_and, and_false, false_and, if_true, if_false, not_true_eq_false, not_false_eq_true, ne_eq, true_or, or_true, or_false, false_or, or_self, reduceCtorEq, Nat.reduceEqDiff, Int.reduceEq, Int.reduceLT, Int.reduceLE, Int.reduceAdd, Int.reduceSub, Int.reduceNeg, ↓reduceIte, if_n, i3_ite, xJ_size hl, xJ_get hl, elrd hkk, t1, t2, t3, t4, hs3, x0_isDate, x0_dayAt] <;> omega) | assumption | omega) ?_) | (unfold fX0_dates_J103)); try dsimp only
        refine rn_c (by simp (disch := omega) only [obs, i3_lit, i3_neg, i3_add, i3_sub, i3_mul, i3_lt, i3_le, i3_eq, i3_inb, i3_nat, b3_0, Classical.not_not, i6_lit, i6_neg, i6_add, i6_sub, i6_mul, i3_l, p_ki, p_kl, p_kr, p_ni, p_nl, p_ri, p_rl, p_dwi, p_dwl, p_dwr, p_fwi, p_fwl, p_iwi, p_iwl, p_iwr, p_lwi, p_lwl, p_lwr, p_rwi, p_rwl, p_rwr, p_kwi, p_kwl, p_kwr, p_zwi, p_zwl, p_zwr, p_swi, p_swl, p_swr, and_self, and_true, true_and, and_false, false_and, if_true, if_false, not_true_eq_false, not_false_eq_true, ne_eq, true_or, or_true, or_false, false_or, or_self, reduceCtorEq, Nat.reduceEqDiff, Int.reduceEq, Int.reduceLT, Int.reduceLE, Int.reduceAdd, Int.reduceSub, Int.reduceNeg, ↓reduceIte, if_n, i3_ite, hs3, t1] <;> exact rfl) ?_
        exact fin _ _ (if_pos c1).symm (if_pos c0).symm
      · repeat (first | (with_reducible refine rn_b (by simp (disch := omega) only [obs, i3_lit, i3_neg, i3_add, i3_sub, i3_mul, i3_lt, i3_le, i3_eq, i3_inb, i3_nat, b3_0, Classical.not_not, i6_lit, i6_neg, i6_add, i6_sub, i6_mul, i3_l, p_ki, p_kl, p_kr, p_ni, p_nl, p_ri, p_rl, p_dwi, p_dwl, p_dwr, p_fwi, p_fwl, p_iwi, p_iwl, p_iwr, p_lwi, p_lwl, p_lwr, p_rwi, p_rwl, p_rwr, p_kwi, p_kwl, p_kwr, p_zwi, p_zwl, p_zwr, p_swi, p_swl, p_swr, and_self, and_true, true_and, and_false, false_and, if_true, if_false, not_true_eq_false, not_false_eq_true, ne_eq, true_or, or_true, or_false, false_or, or_self, reduceCtorEq, Nat.reduceEqDiff, Int.reduceEq, Int.reduceLT, Int.reduceLE, Int.reduceAdd, Int.reduceSub, Int.reduceNeg, ↓reduceIte, if_n, i3_ite, xJ_size hl, xJ_get hl, elrd hkk, t1, t2, t3, t4, hs3, x0_isDate, x0_dayAt] <;> exact rfl) ?_) | (with_reducible refine rn_t (by first | (simp (disch := omega) only [obs, i3_lit, i3_neg, i3_add, i3_sub, i3_mul, i3_lt, i3_le, i3_eq, i3_inb, i3_nat, b3_0, Classical.not_not, i6_lit, i6_neg, i6_add, i6_sub, i6_mul, i3_l, p_ki, p_kl, p_kr, p_ni, p_nl, p_ri, p_rl, p_dwi, p_dwl, p_dwr, p_fwi, p_fwl, p_iwi, p_iwl, p_iwr, p_lwi, p_lwl, p_lwr, p_rwi, p_rwl, p_rwr, p_kwi, p_kwl, p_kwr, p_zwi, p_zwl, p_zwr, p_swi, p_swl, p_swr, and_self, and_true, true_and, and_false, false_and, if_true, if_false, not_true_eq_false, not_false_eq_true, ne_eq, true_or, or_true, or_false, false_or, or_self, reduceCtorEq, Nat.reduceEqDiff, Int.reduceEq, Int.reduceLT, Int.reduceLE, Int.reduceAdd, Int.reduceSub, Int.reduceNeg, ↓reduceIte, if_n, i3_ite, xJ_size hl, xJ_get hl, elrd hkk, t1, t2, t3, t4, hs3, x0_isDate, x0_dayAt] <;> omega) | assumption | omega) ?_) | (with_reducible refine rn_f (by first | (simp (disch := omega) only [obs, i3_lit, i3_neg, i3_add, i3_sub, i3_mul, i3_lt, i3_le, i3_eq, i3_inb, i3_nat, b3_0, Classical.not_not, i6_lit, i6_neg, i6_add, i6_sub, i6_mul, i3_l, p_ki, p_kl, p_kr, p_ni, p_nl, p_ri, p_rl, p_dwi, p_dwl, p_dwr, p_fwi, p_fwl, p_iwi, p_iwl, p_iwr, p_lwi, p_lwl, p_lwr, p_rwi, p_rwl, p_rwr, p_kwi, p_kwl, p_kwr, p_zwi, p_zwl, p_zwr, p_swi, p_swl, p_swr, and_self, and_true, true_and, and_false, false_and, if_true, if_false, not_true_eq_false, not_false_eq_true, ne_eq, true_or, or_true, or_false, false_or, or_self, reduceCtorEq, Nat.reduceEqDiff, Int.reduceEq, Int.reduceLT, Int.reduceLE, Int.reduceAdd, Int.reduceSub, Int.reduceNeg, ↓reduceIte, if_n, i3_ite, xJ_size hl, xJ_get hl, elrd hkk, t1, t2, t3, t4, hs3, x0_isDate, x0_dayAt] <;> omega) | assumption | omega) ?_) | (unfold fX0_dates_J103)); try dsimp only
        refine rn_c (by simp (disch := omega) only [obs, i3_lit, i3_neg, i3_add, i3_sub, i3_mul, i3_lt, i3_le, i3_eq, i3_inb, i3_nat, b3_0, Classical.not_not, i6_lit, i6_neg, i6_add, i6_sub, i6_mul, i3_l, p_ki, p_kl, p_kr, p_ni, p_nl, p_ri, p_rl, p_dwi, p_dwl, p_dwr, p_fwi, p_fwl, p_iwi, p_iwl, p_iwr, p_lwi, p_lwl, p_lwr, p_rwi, p_rwl, p_rwr, p_kwi, p_kwl, p_kwr, p_zwi, p_zwl, p_zwr, p_swi, p_swl, p_swr, and_self, and_true, true_and, and_false, false_and, if_true, if_false, not_true_eq_false, not_false_eq_true, ne_eq, true_or, or_true, or_false, false_or, or_self, reduceCtorEq, Nat.reduceEqDiff, Int.reduceEq, Int.reduceLT, Int.reduceLE, Int.reduceAdd, Int.reduceSub, Int.reduceNeg, ↓reduceIte, if_n, i3_ite, hs3, t1] <;> exact rfl) ?_
        exact fin _ _ (if_pos c1).symm (if_neg c0).symm
      · repeat (first | (with_reducible refine rn_b (by simp (disch := omega) only [obs, i3_lit, i3_neg, i3_add, i3_sub, i3_mul, i3_lt, i3_le, i3_eq, i3_inb, i3_nat, b3_0, Classical.not_not, i6_lit, i6_neg, i6_add, i6_sub, i6_mul, i3_l, p_ki, p_kl, p_kr, p_ni, p_nl, p_ri, p_rl, p_dwi, p_dwl, p_dwr, p_fwi, p_fwl, p_iwi, p_iwl, p_iwr, p_lwi, p_lwl, p_lwr, p_rwi, p_rwl, p_rwr, p_kwi, p_kwl, p_kwr, p_zwi, p_zwl, p_zwr, p_swi, p_swl, p_swr, and_self, and_true, true_and, and_false, false_and, if_true, if_false, not_true_eq_false, not_false_eq_true, ne_eq, true_or, or_true, or_false, false_or, or_self, reduceCtorEq, Nat.reduceEqDiff, Int.reduceEq, Int.reduceLT, Int.reduceLE, Int.reduceAdd, Int.reduceSub, Int.reduceNeg, ↓reduceIte, if_n, i3_ite, xJ_size hl, xJ_get hl, elrd hkk, t1, t2, t3, t4, hs3, x0_isDate, x0_dayAt] <;> exact rfl) ?_) | (with_reducible refine rn_t (by first | (simp (disch := omega) only [obs, i3_lit, i3_neg, i3_add, i3_sub, i3_mul, i3_lt, i3_le, i3_eq, i3_inb, i3_nat, b3_0, Classical.not_not, i6_lit, i6_neg, i6_add, i6_sub, i6_mul, i3_l, p_ki, p_kl, p_kr, p_ni, p_nl, p_ri, p_rl, p_dwi, p_dwl, p_dwr, p_fwi, p_fwl, p_iwi, p_iwl, p_iwr, p_lwi, p_lwl, p_lwr, p_rwi, p_rwl, p_rwr, p_kwi, p_kwl, p_kwr, p_zwi, p_zwl, p_zwr, p_swi, p_swl, p_swr, and_self, and_true, true_and, and_false, false_and, if_true, if_false, not_true_eq_false, not_false_eq_true, ne_eq, true_or, or_true, or_false, false_or, or_self, reduceCtorEq, Nat.reduceEqDiff, Int.reduceEq, Int.reduceLT, Int.reduceLE, Int.reduceAdd, Int.reduceSub, Int.reduceNeg, ↓reduceIte, if_n, i3_ite, xJ_size hl, xJ_get hl, elrd hkk, t1, t2, t3, t4, hs3, x0_isDate, x0_dayAt] <;> omega) | assumption | omega) ?_) | (with_reducible refine rn_f (by first | (simp (disch := omega) only [obs, i3_lit, i3_neg, i3_add, i3_sub, i3_mul, i3_lt, i3_le, i3_eq, i3_inb, i3_nat, b3_0, Classical.not_not, i6_lit, i6_neg, i6_add, i6_sub, i6_mul, i3_l, p_ki, p_kl, p_kr, p_ni, p_nl, p_ri, p_rl, p_dwi, p_dwl, p_dwr, p_fwi, p_fwl, p_iwi, p_iwl, p_iwr, p_lwi, p_lwl, p_lwr, p_rwi, p_rwl, p_rwr, p_kwi, p_kwl, p_kwr, p_zwi, p_zwl, p_zwr, p_swi, p_swl, p_swr, and_self, and_true, true_and, and_false, false_and, if_true, if_false, not_true_eq_false, not_false_eq_true, ne_eq, true_or, or_true, or_false, false_or, or_self, reduceCtorEq, Nat.reduceEqDiff, Int.reduceEq, Int.reduceLT, Int.reduceLE, Int.reduceAdd, Int.reduceSub, Int.reduceNeg, ↓reduceIte, if_n, i3_ite, xJ_size hl, xJ_get hl, elrd hkk, t1, t2, t3, t4, hs3, x0_isDate, x0_dayAt] <;> omega) | assumption | omega) ?_) | (unfold fX0_dates_J103)); try dsimp only
        refine rn_c (by simp (disch := omega) only [obs, i3_lit, i3_neg, i3_add, i3_sub, i3_mul, i3_lt, i3_le, i3_eq, i3_inb, i3_nat, b3_0, Classical.not_not, i6_lit, i6_neg, i6_add, i6_sub, i6_mul, i3_l, p_ki, p_kl, p_kr, p_ni, p_nl, p_ri, p_rl, p_dwi, p_dwl, p_dwr, p_fwi, p_fwl, p_iwi, p_iwl, p_iwr, p_lwi, p_lwl, p_lwr, p_rwi, p_rwl, p_rwr, p_kwi, p_kwl, p_kwr, p_zwi, p_zwl, p_zwr, p_swi, p_swl, p_swr, and_self, and_true, true_and, and_false, false_and, if_true, if_false, not_true_eq_false, not_false_eq_true, ne_eq, true_or, or_true, or_false, false_or, or_self, reduceCtorEq, Nat.reduceEqDiff, Int.reduceEq, Int.reduceLT, Int.reduceLE, Int.reduceAdd, Int.reduceSub, Int.reduceNeg, ↓reduceIte, if_n, i3_ite, hs3, t1] <;> exact rfl) ?_
        exact fin _ _ (if_neg c1).symm (if_pos c0).symm
      · repeat (first | (with_reducible refine rn_b (by simp (disch := omega) only [obs, i3_lit, i3_neg, i3_add, i3_sub, i3_mul, i3_lt, i3_le, i3_eq, i3_inb, i3_nat, b3_0, Classical.not_not, i6_lit, i6_neg, i6_add, i6_sub, i6_mul, i3_l, p_ki, p_kl, p_kr, p_ni, p_nl, p_ri, p_rl, p_dwi, p_dwl, p_dwr, p_fwi, p_fwl, p_iwi, p_iwl, p_iwr, p_lwi, p_lwl, p_lwr, p_rwi, p_rwl, p_rwr, p_kwi, p_kwl, p_kwr, p_zwi, p_zwl, p_zwr, p_swi, p_swl, p_swr, and_self, and_true, true_and, and_false, false_and, if_true, if_false, not_true_eq_false, not_false_eq_true, ne_eq, true_or, or_true, or_false, false_or, or_self, reduceCtorEq, Nat.reduceEqDiff, Int.reduceEq, Int.reduceLT, Int.reduceLE, Int.reduceAdd, Int.reduceSub, Int.reduceNeg, ↓reduceIte, if_n, i3_ite, xJ_size hl, xJ_get hl, elrd hkk, t1, t2, t3, t4, hs3, x0_isDate, x0_dayAt] <;> exact rfl) ?_) | (with_reducible refine rn_t (by first | (simp (disch := omega) only [obs, i3_lit, i3_neg, i3_add, i3_sub, i3_mul, i3_lt, i3_le, i3_eq, i3_inb, i3_nat, b3_0, Classical.not_not, i6_lit, i6_neg, i6_add, i6_sub, i6_mul, i3_l, p_ki, p_kl, p_kr, p_ni, p_nl, p_ri, p_rl, p_dwi, p_dwl, p_dwr, p_fwi, p_fwl, p_iwi, p_iwl, p_iwr, p_lwi, p_lwl, p_lwr, p_rwi, p_rwl, p_rwr, p_kwi, p_kwl, p_kwr, p_zwi, p_zwl, p_zwr, p_swi, p_swl, p_swr, and_self, and_true, true_and, and_false, false_and, if_true, if_false, not_true_eq_false, not_false_eq_true, ne_eq, true_or, or_true, or_false, false_or, or_self, reduceCtorEq, Nat.reduceEqDiff, Int.reduceEq, Int.reduceLT, Int.reduceLE, Int.reduceAdd, Int.reduceSub, Int.reduceNeg, ↓reduceIte, if_n, i3_ite, xJ_size hl, xJ_get hl, elrd hkk, t1, t2, t3, t4, hs3, x0_isDate, x0_dayAt] <;> omega) | assumption | omega) ?_) | (with_reducible refine rn_f (by first | (simp (disch := omega) only [obs, i3_lit, i3_neg, i3_add, i3_sub, i3_mul, i3_lt, i3_le, i3_eq, i3_inb, i3_nat, b3_0, Classical.not_not, i6_lit, i6_neg, i6_add, i6_sub, i6_mul, i3_l, p_ki, p_kl, p_kr, p_ni, p_nl, p_ri, p_rl, p_dwi, p_dwl, p_dwr, p_fwi, p_fwl, p_iwi, p_iwl, p_iwr, p_lwi, p_lwl, p_lwr, p_rwi, p_rwl, p_rwr, p_kwi, p_kwl, p_kwr, p_zwi, p_zwl, p_zwr, p_swi, p_swl, p_swr, and_self, and_true, true_and, and_false, false_and, if_true, if_false, not_true_eq_false, not_false_eq_true, ne_eq, true_or, or_true, or_false, false_or, or_self, reduceCtorEq, Nat.reduceEqDiff, Int.reduceEq, Int.reduceLT, Int.reduceLE, Int.reduceAdd, Int.reduceSub, Int.reduceNeg, ↓reduceIte, if_n, i3_ite, xJ_size hl, xJ_get hl, elrd hkk, t1, t2, t3, t4, hs3, x0_isDate, x0_dayAt] <;> omega) | assumption | omega) ?_) | (unfold fX0_dates_J103)); try dsimp only
        refine rn_c (by simp (disch := omega) only [obs, i3_lit, i3_neg, i3_add, i3_sub, i3_mul, i3_lt, i3_le, i3_eq, i3_inb, i3_nat, b3_0, Classical.not_not, i6_lit, i6_neg, i6_add, i6_sub, i6_mul, i3_l, p_ki, p_kl, p_kr, p_ni, p_nl, p_ri, p_rl, p_dwi, p_dwl, p_dwr, p_fwi, p_fwl, p_iwi, p_iwl, p_iwr, p_lwi, p_lwl, p_lwr, p_rwi, p_rwl, p_rwr, p_kwi, p_kwl, p_kwr, p_zwi, p_zwl, p_zwr, p_swi, p_swl, p_swr, and_self, and_true, true_and, and_false, false_and, if_true, if_false, not_true_eq_false, not_false_eq_true, ne_eq, true_or, or_true, or_false, false_or, or_self, reduceCtorEq, Nat.reduceEqDiff, Int.reduceEq, Int.reduceLT, Int.reduceLE, Int.reduceAdd, Int.reduceSub, Int.reduceNeg, ↓reduceIte, if_n, i3_ite, hs3, t1] <;> exact rfl) ?_
        exact fin _ _ (if_neg c1).symm (if_neg c0).symm
end
