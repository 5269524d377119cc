/-! THE PLAIN LAW: numbers. An Int32 is written i3 z, an Int64 i6 z. -/
def i3 (z : Int) : Int32 := Int32.ofInt z
def i6 (z : Int) : Int64 := Int64.ofInt z
theorem i3_lit (n : Nat) : (OfNat.ofNat n : Int32) = i3 (OfNat.ofNat n : Int) := (Int32.ofInt_eq_ofNat (n := n)).symm
theorem i6_lit (n : Nat) : (OfNat.ofNat n : Int64) = i6 (OfNat.ofNat n : Int) := (Int64.ofInt_eq_ofNat (n := n)).symm
theorem i3_0 : (0 : Int32) = i3 0 := rfl
theorem i3_1 : (1 : Int32) = i3 1 := rfl
theorem i3_add (a b : Int) : i3 a + i3 b = i3 (a + b) := (Int32.ofInt_add a b).symm
theorem i3_sub (a b : Int) : i3 a - i3 b = i3 (a - b) := (Int32.ofInt_sub a b).symm
theorem i3_mul (a b : Int) : i3 a * i3 b = i3 (a * b) := (Int32.ofInt_mul a b).symm
theorem i3_neg (a : Int) : - i3 a = i3 (-a) := (Int32.ofInt_neg a).symm
theorem i6_add (a b : Int) : i6 a + i6 b = i6 (a + b) := (Int64.ofInt_add a b).symm
theorem i6_sub (a b : Int) : i6 a - i6 b = i6 (a - b) := (Int64.ofInt_sub a b).symm
theorem i6_mul (a b : Int) : i6 a * i6 b = i6 (a * b) := (Int64.ofInt_mul a b).symm
theorem i6_neg (a : Int) : - i6 a = i6 (-a) := (Int64.ofInt_neg a).symm
theorem i3_toInt {a : Int} (h : -2147483648 ≤ a ∧ a < 2147483648) : (i3 a).toInt = a := Int32.toInt_ofInt_of_le (by omega) (by omega)
theorem i6_toInt {a : Int} (h : -9223372036854775808 ≤ a ∧ a < 9223372036854775808) : (i6 a).toInt = a := Int64.toInt_ofInt_of_le (by omega) (by omega)
theorem i3_ex (x : Int32) : ∃ z : Int, x = i3 z ∧ -2147483648 ≤ z ∧ z < 2147483648 := ⟨x.toInt, (Int32.ofInt_toInt x).symm, x.le_toInt, x.toInt_lt⟩
theorem i6_ex (x : Int64) : ∃ z : Int, x = i6 z ∧ -9223372036854775808 ≤ z ∧ z < 9223372036854775808 := ⟨x.toInt, (Int64.ofInt_toInt x).symm, x.le_toInt, x.toInt_lt⟩
theorem i3_lt {a b : Int} (ha : -2147483648 ≤ a ∧ a < 2147483648) (hb : -2147483648 ≤ b ∧ b < 2147483648) : (i3 a < i3 b) = (a < b) := propext (by rw [Int32.lt_iff_toInt_lt, i3_toInt ha, i3_toInt hb])
theorem i3_le {a b : Int} (ha : -2147483648 ≤ a ∧ a < 2147483648) (hb : -2147483648 ≤ b ∧ b < 2147483648) : (i3 a ≤ i3 b) = (a ≤ b) := propext (by rw [Int32.le_iff_toInt_le, i3_toInt ha, i3_toInt hb])
theorem i3_eq {a b : Int} (ha : -2147483648 ≤ a ∧ a < 2147483648) (hb : -2147483648 ≤ b ∧ b < 2147483648) : (i3 a = i3 b) = (a = b) := propext (by rw [← Int32.toInt_inj, i3_toInt ha, i3_toInt hb])
theorem i6_lt {a b : Int} (ha : -9223372036854775808 ≤ a ∧ a < 9223372036854775808) (hb : -9223372036854775808 ≤ b ∧ b < 9223372036854775808) : (i6 a < i6 b) = (a < b) := propext (by rw [Int64.lt_iff_toInt_lt, i6_toInt ha, i6_toInt hb])
theorem i6_le {a b : Int} (ha : -9223372036854775808 ≤ a ∧ a < 9223372036854775808) (hb : -9223372036854775808 ≤ b ∧ b < 9223372036854775808) : (i6 a ≤ i6 b) = (a ≤ b) := propext (by rw [Int64.le_iff_toInt_le, i6_toInt ha, i6_toInt hb])
theorem i6_eq {a b : Int} (ha : -9223372036854775808 ≤ a ∧ a < 9223372036854775808) (hb : -9223372036854775808 ≤ b ∧ b < 9223372036854775808) : (i6 a = i6 b) = (a = b) := propext (by rw [← Int64.toInt_inj, i6_toInt ha, i6_toInt hb])
theorem i3_nat {a : Int} (h : -2147483648 ≤ a ∧ a < 2147483648) : (i3 a).toNatClampNeg = a.toNat := Int32.toNatClampNeg_ofInt_of_le (by omega) (by omega)
theorem i3_inb {a : Int} {n : Nat} (h : -2147483648 ≤ a ∧ a < 2147483648) : inb (i3 a) n = (0 ≤ a ∧ a < n) := by
  unfold inb
  rw [i3_0, i3_lt h (by omega), i3_nat h]
  exact propext ⟨fun ⟨p, q⟩ => by omega, fun ⟨p, q⟩ => by omega⟩
theorem i3_div {a b : Int} (ha : 0 ≤ a ∧ a < 2147483648) (hb : 0 < b ∧ b < 2147483648) : i3 a / i3 b = i3 (a / b) := by
  have h := Int32.ofInt_tdiv (a := a) (b := b) (by show (-2147483648 : Int) ≤ a; omega) (by show a ≤ (2147483647 : Int); omega) (by show (-2147483648 : Int) ≤ b; omega) (by show b ≤ (2147483647 : Int); omega)
  rw [Int.tdiv_eq_ediv_of_nonneg ha.1] at h
  exact h.symm
theorem i3_tdiv {a b : Int} (ha : -2147483648 ≤ a ∧ a < 2147483648) (hb : -2147483648 ≤ b ∧ b < 2147483648) : i3 a / i3 b = i3 (a.tdiv b) := (Int32.ofInt_tdiv (a := a) (b := b) (by show (-2147483648 : Int) ≤ a; omega) (by show a ≤ (2147483647 : Int); omega) (by show (-2147483648 : Int) ≤ b; omega) (by show b ≤ (2147483647 : Int); omega)).symm
theorem i6_tdiv {a b : Int} (ha : -9223372036854775808 ≤ a ∧ a < 9223372036854775808) (hb : -9223372036854775808 ≤ b ∧ b < 9223372036854775808) : i6 a / i6 b = i6 (a.tdiv b) := (Int64.ofInt_tdiv (a := a) (b := b) (by show (-9223372036854775808 : Int) ≤ a; omega) (by show a ≤ (9223372036854775807 : Int); omega) (by show (-9223372036854775808 : Int) ≤ b; omega) (by show b ≤ (9223372036854775807 : Int); omega)).symm
theorem i3_l {a : Int} (h : -2147483648 ≤ a ∧ a < 2147483648) : (i3 a).toInt64 = i6 a := Int32.toInt64_ofInt (by show (-2147483648 : Int) ≤ a; omega) (by show a ≤ (2147483647 : Int); omega)
theorem i6_i {a : Int} : (i6 a).toInt32 = i3 a := by
  apply Int32.toInt.inj
  rw [Int64.toInt_toInt32]
  show ((Int64.ofInt a).toInt).bmod _ = (Int32.ofInt a).toInt
  rw [Int64.toInt_ofInt, Int32.toInt_ofInt]
  show (a.bmod 18446744073709551616).bmod 4294967296 = a.bmod 4294967296
  exact Int.bmod_bmod_of_dvd (by decide)
/-! an outcome that is there, with what it is -/
def Ev {α : Type} (o : Option α) (P : α → Prop) : Prop := ∃ r, o = some r ∧ P r
theorem ev_some {α : Type} {a : α} {P : α → Prop} : Ev (some a) P = P a := propext ⟨fun ⟨_, h, p⟩ => by cases h; exact p, fun p => ⟨a, rfl, p⟩⟩
theorem ev_none {α : Type} {P : α → Prop} : Ev none P = False := propext ⟨fun ⟨_, h, _⟩ => (by cases h), False.elim⟩
theorem ev_bind {α β : Type} {o : Option α} {f : α → Option β} {P : β → Prop} : Ev (o.bind f) P = Ev o (fun a => Ev (f a) P) := propext ⟨fun ⟨r, h, p⟩ => by
    cases o with
    | none => cases h
    | some a => exact ⟨a, rfl, r, h, p⟩, fun ⟨a, h, r, g, p⟩ => ⟨r, by rw [h]; exact g, p⟩⟩
theorem ev_ite {α : Type} {c : Prop} [Decidable c] {a b : Option α} {P : α → Prop} : Ev (if c then a else b) P = ((c → Ev a P) ∧ (¬ c → Ev b P)) := by
  by_cases h : c
  · rw [if_pos h]; exact propext ⟨fun p => ⟨fun _ => p, fun q => absurd h q⟩, fun p => p.1 h⟩
  · rw [if_neg h]; exact propext ⟨fun p => ⟨fun q => absurd q h, fun _ => p⟩, fun p => p.2 h⟩
theorem ev_grd {α : Type} {c : Prop} [Decidable c] {a : Option α} {P : α → Prop} : Ev (if c then a else none) P = (c ∧ Ev a P) := by
  rw [ev_ite, ev_none]
  by_cases h : c
  · exact propext ⟨fun p => ⟨h, p.1 h⟩, fun p => ⟨fun _ => p.2, fun q => absurd h q⟩⟩
  · exact propext ⟨fun p => (p.2 h).elim, fun p => absurd p.1 h⟩
theorem ev_mono {α : Type} {o : Option α} {P Q : α → Prop} (h : Ev o P) (k : ∀ a, P a → Q a) : Ev o Q := let ⟨r, e, p⟩ := h; ⟨r, e, k r p⟩
theorem ev_eq {α : Type} {o : Option α} {a : α} {P : α → Prop} (h : o = some a) (p : P a) : Ev o P := ⟨a, h, p⟩
theorem ev_is {α : Type} {o : Option α} {a : α} (h : Ev o (· = a)) : o = some a := let ⟨_, e, p⟩ := h; p ▸ e
/-- a loop: at round k of at most N the invariant holds; a round goes on or ends -/
theorem ev_lp {S R : Type} {F : (S → Option R) → S → Option R} (J : Nat → S → Prop) (N : Nat) {P : R → Prop}
    (step : ∀ k s rec, J k s → (∃ s', F rec s = rec s' ∧ k < N ∧ J (k + 1) s') ∨ Ev (F rec s) P) :
    ∀ n k s, J k s → N - k < n → Ev (lp F n s) P := by
  intro n
  induction n with
  | zero => intro k s _ h; omega
  | succ n ih =>
    intro k s hj h
    show Ev (F (lp F n) s) P
    rcases step k s (lp F n) hj with ⟨s', e, hk, j⟩ | p
    · rw [e]
      exact ih (k + 1) s' j (by omega)
    · exact p
theorem ev_lp0 {S R : Type} {F : (S → Option R) → S → Option R} (J : Nat → S → Prop) (N : Nat) (hN : N < 200000) {P : R → Prop} {s : S} (h0 : J 0 s)
    (step : ∀ k s rec, J k s → (∃ s', F rec s = rec s' ∧ k < N ∧ J (k + 1) s') ∨ Ev (F rec s) P) : Ev (lp F N0 s) P :=
  ev_lp J N step N0 0 s h0 (by show N - 0 < 200000; omega)
theorem obs {α β : Type} (a : α) (f : α → Option β) : (some a).bind f = f a := Eq.trans (b := f a) rfl rfl
theorem if_n {α : Type} {p : Prop} [Decidable p] {a b : α} : (if ¬ p then a else b) = if p then b else a := by
  by_cases h : p
  · rw [if_neg (fun q => q h), if_pos h]
  · rw [if_pos h, if_neg h]
theorem i3_ite {p : Prop} [Decidable p] {a b : Int} : (if p then i3 a else i3 b) = i3 (if p then a else b) := by
  by_cases h : p
  · rw [if_pos h, if_pos h]
  · rw [if_neg h, if_neg h]
theorem i6_ite {p : Prop} [Decidable p] {a b : Int} : (if p then i6 a else i6 b) = i6 (if p then a else b) := by
  by_cases h : p
  · rw [if_pos h, if_pos h]
  · rw [if_neg h, if_neg h]
theorem p2e {α β : Type} {a b : α} {c : β} (h : a = b) : (a, c) = (b, c) := by rw [h]
theorem i3s {k : Nat} : i3 k + 1 = i3 (k + 1 : Nat) := by
  rw [i3_1, i3_add]
  rfl
/-! a run, step by step -/
def Rn {α : Type} (o : Option α) (P : Option α → Prop) : Prop := P o
theorem rn_b {α β : Type} {o : Option α} {f : α → Option β} {a : α} {P : Option β → Prop} (h : o = some a) (k : Rn (f a) P) : Rn (o.bind f) P := by rw [h]; exact k
theorem rn_e {α β : Type} {o : Option α} {f : α → Option β} {Q : α → Prop} {P : Option β → Prop} (h : Ev o Q) (k : ∀ a, Q a → Rn (f a) P) : Rn (o.bind f) P := by
  obtain ⟨a, e, q⟩ := h
  rw [e]
  exact k a q
theorem rn_t {α : Type} {c : Prop} {i : Decidable c} {x y : Option α} {P : Option α → Prop} (h : c) (k : Rn x P) : Rn (@ite (Option α) c i x y) P := by rw [if_pos h]; exact k
theorem rn_f {α : Type} {c : Prop} {i : Decidable c} {x y : Option α} {P : Option α → Prop} (h : ¬ c) (k : Rn y P) : Rn (@ite (Option α) c i x y) P := by rw [if_neg h]; exact k
theorem rn_c {α : Type} {v v' : Option α} {P : Option α → Prop} (h : v = v') (k : Rn v' P) : Rn v P := by rw [h]; exact k
theorem rn_v {α : Type} {a : α} {P : α → Prop} (h : P a) : Rn (some a) (fun o => Ev o P) := ⟨a, rfl, h⟩
theorem rn_ev {α : Type} {o : Option α} {P : α → Prop} (h : Rn o (fun o => Ev o P)) : Ev o P := h
theorem rn_lp {S R : Type} {F : (S → Option R) → S → Option R} (J : Nat → S → Prop) (N : Nat) {Q : Option R → Prop}
    (step : ∀ k s rec, J k s → Rn (F rec s) (fun v => (∃ s', v = rec s' ∧ k < N ∧ J (k + 1) s') ∨ Q v)) :
    ∀ n k s, J k s → N - k < n → Q (lp F n s) := by
  intro n
  induction n with
  | zero => intro k s _ h; omega
  | succ n ih =>
    intro k s hj h
    show Q (F (lp F n) s)
    rcases step k s (lp F n) hj with ⟨s', e, hk, j⟩ | p
    · rw [e]
      exact ih (k + 1) s' j (by omega)
    · exact p
/-- a loop of at most N rounds -/
theorem rn_lp0 {S R : Type} {F : (S → Option R) → S → Option R} (J : Nat → S → Prop) (N : Nat) (hN : N < 200000) {Q : Option R → Prop} {s : S} (h0 : J 0 s)
    (step : ∀ k s rec, J k s → Rn (F rec s) (fun v => (∃ s', v = rec s' ∧ k < N ∧ J (k + 1) s') ∨ Q v)) : Rn (lp F N0 s) Q :=
  rn_lp J N step N0 0 s h0 (by show N - 0 < 200000; omega)
/-! reading what was written -/
theorem p_iwi (σ : Sg) (a k b j : Nat) (v : Int32) : gi (wi σ a k v) b j = if b = a ∧ j = k then v else gi σ b j := rfl
theorem p_iwl (σ : Sg) (a k b j : Nat) (v : Int64) : gi (wl σ a k v) b j = gi σ b j := rfl
theorem p_iwr (σ : Sg) (a k b j : Nat) (v : Option Nat) : gi (wr σ a k v) b j = gi σ b j := rfl
theorem p_lwi (σ : Sg) (a k b j : Nat) (v : Int32) : gl (wi σ a k v) b j = gl σ b j := rfl
theorem p_lwl (σ : Sg) (a k b j : Nat) (v : Int64) : gl (wl σ a k v) b j = if b = a ∧ j = k then v else gl σ b j := rfl
theorem p_lwr (σ : Sg) (a k b j : Nat) (v : Option Nat) : gl (wr σ a k v) b j = gl σ b j := rfl
theorem p_rwi (σ : Sg) (a k b j : Nat) (v : Int32) : gr (wi σ a k v) b j = gr σ b j := rfl
theorem p_rwl (σ : Sg) (a k b j : Nat) (v : Int64) : gr (wl σ a k v) b j = gr σ b j := rfl
theorem p_rwr (σ : Sg) (a k b j : Nat) (v : Option Nat) : gr (wr σ a k v) b j = if b = a ∧ j = k then v else gr σ b j := rfl
theorem p_kwi (σ : Sg) (a k : Nat) (v : Int32) : gk (wi σ a k v) = gk σ := rfl
theorem p_kwl (σ : Sg) (a k : Nat) (v : Int64) : gk (wl σ a k v) = gk σ := rfl
theorem p_kwr (σ : Sg) (a k : Nat) (v : Option Nat) : gk (wr σ a k v) = gk σ := rfl
theorem p_zwi (σ : Sg) (a k : Nat) (v : Int32) : gz (wi σ a k v) = gz σ := rfl
theorem p_zwl (σ : Sg) (a k : Nat) (v : Int64) : gz (wl σ a k v) = gz σ := rfl
theorem p_zwr (σ : Sg) (a k : Nat) (v : Option Nat) : gz (wr σ a k v) = gz σ := rfl
theorem p_swi (σ : Sg) (a k : Nat) (v : Int32) : gs (wi σ a k v) = gs σ := rfl
theorem p_swl (σ : Sg) (a k : Nat) (v : Int64) : gs (wl σ a k v) = gs σ := rfl
theorem p_swr (σ : Sg) (a k : Nat) (v : Option Nat) : gs (wr σ a k v) = gs σ := rfl
/-- what is so, as a number -/
def b3 (p : Prop) [Decidable p] : Int32 := if p then i3 1 else i3 0
theorem b3_1 {p : Prop} [Decidable p] : (b3 p = i3 1) = p := by
  unfold b3
  by_cases h : p
  · rw [if_pos h]; exact propext ⟨fun _ => h, fun _ => rfl⟩
  · rw [if_neg h, i3_eq (by omega) (by omega)]; exact propext ⟨fun q => by omega, fun q => absurd q h⟩
theorem b3_0 {p : Prop} [Decidable p] : (b3 p = i3 0) = ¬ p := by
  unfold b3
  by_cases h : p
  · rw [if_pos h, i3_eq (by omega) (by omega)]; exact propext ⟨fun q => by omega, fun q => absurd h q⟩
  · rw [if_neg h]; exact propext ⟨fun _ => h, fun _ => rfl⟩
theorem b3_ok {p : Prop} [Decidable p] : am_ok 3 (b3 p) = true := by
  unfold b3
  by_cases h : p
  · rw [if_pos h]; rfl
  · rw [if_neg h]; rfl
theorem b3_if {p : Prop} [Decidable p] : (if p then i3 1 else i3 0) = b3 p := rfl
theorem b3_if0 {p : Prop} [Decidable p] : (if p then i3 0 else i3 1) = b3 (¬ p) := by
  unfold b3
  by_cases h : p
  · rw [if_pos h, if_neg (fun q => q h)]
  · rw [if_neg h, if_pos h]
theorem b3_c {p q : Prop} [Decidable p] [Decidable q] (h : p ↔ q) : b3 p = b3 q := by
  unfold b3
  by_cases g : p
  · rw [if_pos g, if_pos (h.1 g)]
  · rw [if_neg g, if_neg (fun k => g (h.2 k))]
theorem p_wwi (σ : Sg) (a k : Nat) (v w : Int32) : wi (wi σ a k v) a k w = wi σ a k w := by
  unfold wi
  congr 1
  funext b j
  by_cases h : b = a ∧ j = k
  · simp only [h, and_self, if_true]
  · simp only [h, if_false]
theorem p_wwl (σ : Sg) (a k : Nat) (v w : Int64) : wl (wl σ a k v) a k w = wl σ a k w := by
  unfold wl
  congr 2
  funext b j
  by_cases h : b = a ∧ j = k
  · simp only [h, and_self, if_true]
  · simp only [h, if_false]
