/-! THE PLAIN LAW: what may be written, lists, what was told -/
/-- fields fs of cell b, and cells cs -/
def pw (b : Nat) (fs cs : List Nat) (c i : Nat) : Bool := (Nat.beq c b && fs.elem i) || cs.elem c
def Frm (b : Nat) (fs cs : List Nat) (σ τ : Sg) : Prop := (∀ c i, pw b fs cs c i = false → gi τ c i = gi σ c i) ∧ (∀ c i, pw b fs cs c i = false → gl τ c i = gl σ c i) ∧ (∀ c i, gr τ c i = gr σ c i) ∧ gk τ = gk σ ∧ gz τ = gz σ ∧ gs τ = gs σ
theorem fr_refl {b : Nat} {fs cs : List Nat} {σ : Sg} : Frm b fs cs σ σ := ⟨fun _ _ _ => rfl, fun _ _ _ => rfl, fun _ _ => rfl, rfl, rfl, rfl⟩
theorem fr_trans {b : Nat} {fs cs : List Nat} {σ τ υ : Sg} (h : Frm b fs cs σ τ) (g : Frm b fs cs τ υ) : Frm b fs cs σ υ :=
  ⟨fun c i p => (g.1 c i p).trans (h.1 c i p), fun c i p => (g.2.1 c i p).trans (h.2.1 c i p), fun c i => (g.2.2.1 c i).trans (h.2.2.1 c i), g.2.2.2.1.trans h.2.2.2.1, g.2.2.2.2.1.trans h.2.2.2.2.1, g.2.2.2.2.2.trans h.2.2.2.2.2⟩
theorem fr_wi {b : Nat} {fs cs : List Nat} {σ τ : Sg} {c i : Nat} {v : Int32} (h : Frm b fs cs σ τ) (p : pw b fs cs c i = true) : Frm b fs cs σ (wi τ c i v) :=
  ⟨fun d j q => by
    rw [p_iwi]
    by_cases e : d = c ∧ j = i
    · rw [e.1, e.2, p] at q; cases q
    · rw [if_neg e]; exact h.1 d j q, h.2⟩
theorem fr_wl {b : Nat} {fs cs : List Nat} {σ τ : Sg} {c i : Nat} {v : Int64} (h : Frm b fs cs σ τ) (p : pw b fs cs c i = true) : Frm b fs cs σ (wl τ c i v) :=
  ⟨h.1, fun d j q => by
    rw [p_lwl]
    by_cases e : d = c ∧ j = i
    · rw [e.1, e.2, p] at q; cases q
    · rw [if_neg e]; exact h.2.1 d j q, h.2.2⟩
theorem el_sub {l m : List Nat} (h : l.all (fun x => m.elem x) = true) {i : Nat} (g : m.elem i = false) : l.elem i = false := by
  induction l with
  | nil => rfl
  | cons a l ih =>
    rw [List.all_cons, Bool.and_eq_true] at h
    rw [List.elem_cons]
    have := ih h.2
    rw [this]
    cases e : (i == a) with
    | false => rfl
    | true =>
      have e2 : i = a := by simpa using e
      rw [e2, h.1] at g
      cases g
theorem pw_sub {b : Nat} {fs cs fs' cs' : List Nat} (h : fs.all (fun x => fs'.elem x) = true) (g : cs.all (fun x => cs'.elem x) = true) {c i : Nat} (p : pw b fs' cs' c i = false) : pw b fs cs c i = false := by
  unfold pw at *
  rw [Bool.or_eq_false_iff] at *
  refine ⟨?_, el_sub g p.2⟩
  rw [Bool.and_eq_false_iff] at *
  rcases p.1 with q | q
  · exact Or.inl q
  · exact Or.inr (el_sub h q)
theorem fr_sub {b : Nat} {fs cs fs' cs' : List Nat} {σ τ : Sg} (k : Frm b fs cs σ τ) (h : fs.all (fun x => fs'.elem x) = true) (g : cs.all (fun x => cs'.elem x) = true) : Frm b fs' cs' σ τ :=
  ⟨fun c i p => k.1 c i (pw_sub h g p), fun c i p => k.2.1 c i (pw_sub h g p), k.2.2⟩
theorem el_ge {l : List Nat} {n c : Nat} (h : l.all (fun x => Nat.blt x n) = true) (g : n ≤ c) : l.elem c = false := by
  induction l with
  | nil => rfl
  | cons a l ih =>
    rw [List.all_cons, Bool.and_eq_true] at h
    rw [List.elem_cons, ih h.2]
    cases e : (c == a) with
    | false => rfl
    | true =>
      have e2 : c = a := by simpa using e
      have := Nat.le_of_ble_eq_true h.1
      omega
/-- a dynamic cell -/
theorem pw_ge {b : Nat} {fs cs : List Nat} (h : (b :: cs).all (fun x => Nat.blt x 93) = true) {c i : Nat} (g : 93 ≤ c) : pw b fs cs c i = false := by
  rw [List.all_cons, Bool.and_eq_true] at h
  unfold pw
  rw [el_ge h.2 g]
  have e : Nat.beq c b = false := by
    have := Nat.le_of_ble_eq_true h.1
    cases k : Nat.beq c b with
    | false => rfl
    | true => have := Nat.eq_of_beq_eq_true k; omega
  rw [e]
  rfl
theorem fr_gi {b : Nat} {fs cs : List Nat} {σ τ : Sg} (k : Frm b fs cs σ τ) {c i : Nat} (p : pw b fs cs c i = false) : gi τ c i = gi σ c i := k.1 c i p
theorem fr_gl {b : Nat} {fs cs : List Nat} {σ τ : Sg} (k : Frm b fs cs σ τ) {c i : Nat} (p : pw b fs cs c i = false) : gl τ c i = gl σ c i := k.2.1 c i p
theorem fr_kd {b : Nat} {fs cs : List Nat} {σ τ : Sg} (k : Frm b fs cs σ τ) (c : Nat) : kdT true τ c = kdT true σ c := by
  unfold kdT
  rw [k.2.2.2.1]
theorem fr_rf {b : Nat} {fs cs : List Nat} {σ τ : Sg} (k : Frm b fs cs σ τ) (c i : Nat) : grT true τ c i = grT true σ c i := by
  unfold grT
  rw [k.2.2.1]
theorem p_dwi (σ : Sg) (a k b : Nat) (v : Int32) : kdT true (wi σ a k v) b = kdT true σ b := rfl
theorem p_dwl (σ : Sg) (a k b : Nat) (v : Int64) : kdT true (wl σ a k v) b = kdT true σ b := rfl
theorem p_dwr (σ : Sg) (a k b : Nat) (v : Option Nat) : kdT true (wr σ a k v) b = kdT true σ b := rfl
theorem p_ki (σ : Sg) (a k b : Nat) (v : Int32) : kk (wi σ a k v) b = kk σ b := rfl
theorem p_kl (σ : Sg) (a k b : Nat) (v : Int64) : kk (wl σ a k v) b = kk σ b := rfl
theorem p_kr (σ : Sg) (a k b : Nat) (v : Option Nat) : kk (wr σ a k v) b = kk σ b := rfl
theorem p_ni (σ : Sg) (a k b : Nat) (v : Int32) : kn (wi σ a k v) b = kn σ b := rfl
theorem p_nl (σ : Sg) (a k b : Nat) (v : Int64) : kn (wl σ a k v) b = kn σ b := rfl
theorem p_ri (σ : Sg) (a k b j : Nat) (v : Int32) : rf (wi σ a k v) b j = rf σ b j := rfl
theorem p_rl (σ : Sg) (a k b j : Nat) (v : Int64) : rf (wl σ a k v) b j = rf σ b j := rfl
theorem p_fwi (σ : Sg) (a k b j : Nat) (v : Int32) : grT true (wi σ a k v) b j = grT true σ b j := rfl
theorem p_fwl (σ : Sg) (a k b j : Nat) (v : Int64) : grT true (wl σ a k v) b j = grT true σ b j := rfl
theorem el16 : ([16].elem 16 = true) = True := eq_true rfl
theorem el34 : ([34].elem 34 = true) = True := eq_true rfl
theorem el26 : ([26].elem 26 = true) = True := eq_true rfl
theorem el35 : ([35].elem 35 = true) = True := eq_true rfl
theorem elrd {k : Nat} (h : 17 ≤ k ∧ k ≤ 21) : ([17, 18, 19, 20, 21].elem k = true) = True := by
  have : k = 17 ∨ k = 18 ∨ k = 19 ∨ k = 20 ∨ k = 21 := by omega
  rcases this with rfl | rfl | rfl | rfl | rfl <;> exact eq_true rfl
/-- a list of n cells A l 0 .. in the row a -/
def Lsc (σ : Sg) (A : Nat → Int → Nat) (l : Nat) (n : Int) (a : Nat) : Prop :=
  kk σ l = 16 ∧ gi σ l 2 = i3 n ∧ 0 ≤ n ∧ n ≤ 1000 ∧ rf σ l 1 = some a ∧ kk σ a = 5 ∧ n ≤ kn σ a ∧ kn σ a ≤ 2000 ∧ 0 < kn σ a ∧ ∀ i : Int, 0 ≤ i → i < n → gr σ a i.toNat = some (A l i)
theorem xJ_size {σ : Sg} {A : Nat → Int → Nat} {l a : Nat} {n : Int} (h : Lsc σ A l n a) : fJ2_size l σ = some (i3 n) := by
  simp only [fJ2_size, h.1, h.2.1, el16, if_true]
theorem xJ_get {σ : Sg} {A : Nat → Int → Nat} {l a : Nat} {n i : Int} (h : Lsc σ A l n a) (hi : 0 ≤ i ∧ i < n) : fJ2_get l (i3 i) σ = some (A l i) := by
  obtain ⟨h1, h2, h3, h4, g1, g2, g3, g4, g5, g6⟩ := h
  have h6 := g6 i hi.1 hi.2
  have h7 : i < (kn σ a : Int) := by omega
  simp (disch := omega) only [fJ2_get, fJ12_checkIndex, fJ13_checkIndex, fJ2_elementData, h1, h2, g1, g2, i3_lit, i3_lt, obs, i3_nat, h6, i3_inb]
  simp [show ¬ i < 0 by omega, hi, h7, obs]
theorem lsc_wi {σ : Sg} {A : Nat → Int → Nat} {l a : Nat} {n : Int} (h : Lsc σ A l n a) {c j : Nat} {v : Int32} (g : l ≠ c) : Lsc (wi σ c j v) A l n a := by
  obtain ⟨h1, h2, h3⟩ := h
  refine ⟨h1, ?_, h3⟩
  rw [p_iwi, if_neg (fun q => g q.1)]
  exact h2
theorem lsc_wl {σ : Sg} {A : Nat → Int → Nat} {l a : Nat} {n : Int} (h : Lsc σ A l n a) {c j : Nat} {v : Int64} : Lsc (wl σ c j v) A l n a := h
/-! the row: places, sources, readings, texts -/
abbrev rHgt (R : Int → Int) (p : Int) : Int := R (20 + 37 * p)
abbrev rMean (R : Int → Int) (p m : Int) : Int := R (20 + 37 * p + m)
abbrev rSpr (R : Int → Int) (p m : Int) : Int := R (20 + 37 * p + 12 + m)
abbrev rLik (R : Int → Int) (p q : Int) : Int := R (20 + 37 * p + 25 + q)
abbrev rHand (R : Int → Int) (s : Int) : Int := R (464 + 4 * s)
abbrev rAt (R : Int → Int) (s : Int) : Int := R (464 + 4 * s + 1)
abbrev rTurn (R : Int → Int) (s : Int) : Int := R (464 + 4 * s + 2)
abbrev rStop (R : Int → Int) (s : Int) : Int := R (464 + 4 * s + 3)
abbrev rG (R : Int → Int) (r j : Int) : Int := R (528 + 9 * r + j)
abbrev rTx (R : Int → Int) (t j : Int) : Int := R (2328 + 946 * t + j)
abbrev rC (R : Int → Int) (t c j : Int) : Int := R (2328 + 946 * t + 2 + 12 * c + j)
abbrev rSc (R : Int → Int) (h w : Int) : Int := R (21248 + 20 * h + w)
abbrev rSl (R : Int → Int) (k j : Int) : Int := R (21408 + 3 * k + j)
abbrev rOf (R : Int → Int) (k j : Int) : Int := R (21588 + 5 * k + j)
abbrev rS (R : Int → Int) (i j : Int) : Int := R (21638 + 5 * i + j)

/-- what may stand in a row -/
def Vtx (R : Int → Int) (t : Int) : Prop := (0 ≤ rTx R t 0 ∧ rTx R t 0 ≤ 9999) ∧ (1 ≤ rTx R t 1 ∧ rTx R t 1 ≤ 12) ∧ ∀ c : Int, 0 ≤ c → c < rTx R t 1 → (0 ≤ rC R t c 0 ∧ rC R t c 0 ≤ 8) ∧ (0 ≤ rC R t c 1 ∧ rC R t c 1 ≤ 20) ∧ (0 ≤ rC R t c 2 ∧ rC R t c 2 ≤ 19) ∧ (rC R t c 0 = 0 → rC R t c 1 ≤ 19 ∧ rC R t c 2 ≤ 11) ∧ (0 ≤ rC R t c 4 ∧ rC R t c 4 ≤ rC R t c 5 ∧ rC R t c 5 ≤ 400) ∧ (0 ≤ rC R t c 6 ∧ rC R t c 6 ≤ rC R t c 7 ∧ rC R t c 7 ≤ 400) ∧ 0 ≤ rC R t c 8 ∧ rC R t c 8 ≤ rC R t c 9 ∧ rC R t c 9 ≤ 400
def Vrd (R : Int → Int) (r : Int) : Prop := (0 ≤ rG R r 0 ∧ rG R r 0 ≤ 4) ∧ (0 ≤ rG R r 1 ∧ rG R r 1 < R 1) ∧ (1600 ≤ rG R r 2 ∧ rG R r 2 ≤ 1901) ∧ (1 ≤ rG R r 3 ∧ rG R r 3 ≤ 12) ∧ (1 ≤ rG R r 4 ∧ rG R r 4 ≤ 31) ∧ (-1024 ≤ rG R r 5 ∧ rG R r 5 ≤ 1023) ∧ (0 ≤ rG R r 6 ∧ rG R r 6 ≤ 9999) ∧ (-1 ≤ rG R r 7 ∧ rG R r 7 ≤ 9999) ∧ (rG R r 0 = 4 → 0 ≤ rG R r 8 ∧ rG R r 8 < r) ∧ (rG R r 0 = 3 → 0 ≤ rG R r 8 ∧ rG R r 8 ≤ 3)
def Vpl (R : Int → Int) (p : Int) : Prop := (0 ≤ rHgt R p ∧ rHgt R p ≤ 4000) ∧ (∀ m : Int, 1 ≤ m → m ≤ 12 → (-600 ≤ rMean R p m ∧ rMean R p m ≤ 600) ∧ 0 ≤ rSpr R p m ∧ rSpr R p m ≤ 300) ∧ ∀ q : Int, 0 ≤ q → q < 12 → (0 ≤ rLik R p q ∧ rLik R p q ≤ 100) ∧ (R 0 ≤ q → rLik R p q = 0)
def Vso (R : Int → Int) (s : Int) : Prop := (0 ≤ rHand R s ∧ rHand R s ≤ 7) ∧ (0 ≤ rAt R s ∧ rAt R s < R 0) ∧ (-1 ≤ rTurn R s ∧ rTurn R s ≤ 110000) ∧ -1 ≤ rStop R s ∧ rStop R s ≤ 120000
def Vld (R : Int → Int) : Prop := (0 ≤ R 0 ∧ R 0 ≤ 12) ∧ (0 ≤ R 1 ∧ R 1 ≤ 16) ∧ (0 ≤ R 2 ∧ R 2 ≤ 200) ∧ (0 ≤ R 3 ∧ R 3 ≤ 20) ∧ (0 ≤ R 4 ∧ R 4 ≤ 60) ∧ (0 ≤ R 5 ∧ R 5 ≤ 10) ∧ (∀ p : Int, 0 ≤ p → p < R 0 → Vpl R p) ∧ (∀ s : Int, 0 ≤ s → s < R 1 → Vso R s) ∧ (∀ r : Int, 0 ≤ r → r < R 2 → Vrd R r) ∧ (∀ t : Int, 0 ≤ t → t < R 3 → Vtx R t) ∧ (∀ k : Int, 0 ≤ k → k < R 4 → (0 ≤ rSl R k 0 ∧ rSl R k 0 < 16) ∧ (0 ≤ rSl R k 1 ∧ rSl R k 1 < 16) ∧ 0 ≤ rSl R k 2 ∧ rSl R k 2 ≤ 9999) ∧ (∀ k : Int, 0 ≤ k → k < R 5 → (0 ≤ rOf R k 0 ∧ rOf R k 0 < 12) ∧ (0 ≤ rOf R k 1 ∧ rOf R k 1 ≤ 109999) ∧ (0 ≤ rOf R k 2 ∧ rOf R k 2 ≤ 109999) ∧ (0 ≤ rOf R k 3 ∧ rOf R k 3 ≤ 2000) ∧ 1 ≤ rOf R k 4 ∧ rOf R k 4 ≤ 100) ∧ (∀ h w : Int, 0 ≤ h → h < 8 → 0 ≤ w → w < 20 → 0 ≤ rSc R h w ∧ rSc R h w ≤ 20) ∧ ∀ t k : Int, 0 ≤ t → t < 20 → 0 ≤ k → k < 400 → (0 ≤ R (2328 + 946 * t + 146 + 2 * k) ∧ R (2328 + 946 * t + 146 + 2 * k) ≤ 19) ∧ 0 ≤ R (2328 + 946 * t + 146 + 2 * k + 1) ∧ R (2328 + 946 * t + 146 + 2 * k + 1) ≤ 10000
/-- a reading's cell -/
def Trd (R : Int → Int) (A : Nat → Int → Nat) (σ : Sg) (r : Int) : Prop := 93 ≤ A 2 r ∧ (kk σ (A 2 r) : Int) = 17 + rG R r 0 ∧ gi σ (A 2 r) 0 = i3 r ∧ gi σ (A 2 r) 1 = i3 (rG R r 1) ∧ gi σ (A 2 r) 2 = i3 (rG R r 2) ∧ gi σ (A 2 r) 3 = i3 (rG R r 3) ∧ gi σ (A 2 r) 4 = i3 (rG R r 4) ∧ gi σ (A 2 r) 5 = i3 (rG R r 6) ∧ (3 ≤ rG R r 0 → gi σ (A 2 r) 6 = i3 (rG R r 8)) ∧ gi σ 18 r.toNat = i3 (rG R r 5) ∧ gi σ 19 r.toNat = i3 (rG R r 7)
def Tpl (R : Int → Int) (σ : Sg) (p : Int) : Prop := gi σ 10 p.toNat = i3 (rHgt R p) ∧ (∀ m : Int, 1 ≤ m → m ≤ 12 → gi σ 11 (12 * p + m - 1).toNat = i3 (rMean R p m) ∧ gi σ 12 (12 * p + m - 1).toNat = i3 (rSpr R p m)) ∧ ∀ q : Int, 0 ≤ q → q < 12 → gi σ 13 (12 * p + q).toNat = i3 (rLik R p q)
def Tso (R : Int → Int) (σ : Sg) (s : Int) : Prop := gi σ 14 s.toNat = i3 (rHand R s) ∧ gi σ 15 s.toNat = i3 (rAt R s) ∧ gi σ 16 s.toNat = i3 (rTurn R s) ∧ gi σ 17 s.toNat = i3 (rStop R s)
