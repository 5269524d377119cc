/-! THE PLAIN LAW: what was told, in the component's cells. A: elements of lists; M: their rows; Im: the cells that are written no more -/
theorem kd_st : ∀ s : Fin 93, (K1[s.val]?.getD (0, 0)).1 ≤ 16 ∨ (K1[s.val]?.getD (0, 0)).1 = 25 ∨ (K1[s.val]?.getD (0, 0)).1 = 36 := by decide
theorem kd_dyn {σ : Sg} {s : Nat} (h : 17 ≤ kk σ s) (h1 : kk σ s ≠ 25) (h2 : kk σ s ≠ 36) : 93 ≤ s := by
  refine Nat.le_of_not_lt fun g => ?_
  have := kd_st ⟨s, g⟩
  have e : K1.length = 93 := rfl
  have e2 : K1[s]? = some (K1[s]'(by omega)) := List.getElem?_eq_getElem (by omega)
  unfold kk kdT at h h1 h2
  rw [e2] at this h h1 h2
  simp only [Option.getD_some] at this
  dsimp only at h h1 h2
  omega
abbrev rOp (R : Int → Int) (t k : Int) : Int := R (2328 + 946 * t + 146 + 2 * k)
abbrev rAr (R : Int → Int) (t k : Int) : Int := R (2328 + 946 * t + 146 + 2 * k + 1)
/-- the sum in cell s is the code of text t from lo to hi -/
def RepS (R : Int → Int) (Im : Nat → Prop) (σ : Sg) (t : Int) : Nat → Nat → Int → Int → Prop
  | 0, _, _, _ => False
  | n + 1, s, lo, hi => Im s ∧ (
    (kk σ s = 28 ∧ hi = lo + 1 ∧ rOp R t lo = 0 ∧ (0 ≤ rAr R t lo ∧ rAr R t lo ≤ 10000) ∧ gi σ s 0 = i3 (rAr R t lo)) ∨
    (kk σ s = 29 ∧ hi = lo + 1 ∧ (1 ≤ rOp R t lo ∧ rOp R t lo ≤ 7) ∧ gi σ s 0 = i3 (rOp R t lo - 1)) ∨
    (kk σ s = 27 ∧ ∃ a, rf σ s 0 = some a ∧ RepS R Im σ t n a lo (hi - 1) ∧ rOp R t (hi - 1) = 15) ∨
    (kk σ s = 30 ∧ ∃ a b mid, rf σ s 1 = some a ∧ rf σ s 2 = some b ∧ RepS R Im σ t n a lo mid ∧ RepS R Im σ t n b mid (hi - 1) ∧ ((rOp R t (hi - 1) = 8 ∧ gi σ s 0 = i3 43) ∨ (rOp R t (hi - 1) = 9 ∧ gi σ s 0 = i3 45) ∨ (rOp R t (hi - 1) = 10 ∧ gi σ s 0 = i3 42) ∨ (rOp R t (hi - 1) = 11 ∧ gi σ s 0 = i3 47))))
/-- the test in cell s -/
def RepT (R : Int → Int) (A : Nat → Int → Nat) (M : Nat → Nat) (Im : Nat → Prop) (σ : Sg) (t : Int) : Nat → Nat → Int → Int → Prop
  | 0, _, _, _ => False
  | n + 1, s, lo, hi => Im s ∧ (
    (kk σ s = 31 ∧ ∃ a b mid, rf σ s 1 = some a ∧ rf σ s 2 = some b ∧ RepS R Im σ t 80 a lo mid ∧ RepS R Im σ t 80 b mid (hi - 1) ∧ ((rOp R t (hi - 1) = 12 ∧ gi σ s 0 = i3 60) ∨ (rOp R t (hi - 1) = 13 ∧ gi σ s 0 = i3 62) ∨ (rOp R t (hi - 1) = 14 ∧ gi σ s 0 = i3 61))) ∨
    (kk σ s = 32 ∧ ∃ a, rf σ s 0 = some a ∧ RepT R A M Im σ t n a lo (hi - 1) ∧ rOp R t (hi - 1) = 17) ∨
    (RepT R A M Im σ t n s lo (hi - 2) ∧ rOp R t (hi - 1) = 17 ∧ rOp R t (hi - 2) = 17) ∨
    (kk σ s = 33 ∧ ∃ l m, rf σ s 1 = some l ∧ Im l ∧ Im (M l) ∧ Lsc σ A l m (M l) ∧ 2 ≤ m ∧ ((gi σ s 0 = i3 1 ∧ ∃ P : Int → Int, P m = hi ∧ RepT R A M Im σ t n (A l 0) lo (P 1) ∧ ∀ i : Int, 1 ≤ i → i < m → rOp R t (P i) = 18 ∧ rAr R t (P i) = P (i + 1) ∧ RepT R A M Im σ t n (A l i) (P i + 1) (P (i + 1))) ∨ (gi σ s 0 = i3 0 ∧ ∃ P : Int → Int, P m = hi ∧ RepT R A M Im σ t n (A l 0) lo (P 1) ∧ ∀ i : Int, 1 ≤ i → i < m → rOp R t (P i) = 19 ∧ rAr R t (P i) = P (i + 1) ∧ RepT R A M Im σ t n (A l i) (P i + 1) (P (i + 1))))))
/-- a clause's cell -/
def Tcl (R : Int → Int) (A : Nat → Int → Nat) (M : Nat → Nat) (Im : Nat → Prop) (σ : Sg) (t c : Int) (k : Nat) : Prop := Im k ∧ kk σ k = 26 ∧ gi σ k 0 = i3 (rC R t c 0) ∧
  gi σ k 1 = i3 (if rC R t c 0 = 1 then 20 * rC R t c 1 + rC R t c 2 else if 7 ≤ rC R t c 0 then 0 else rC R t c 1) ∧
  gi σ k 2 = i3 (if rC R t c 0 = 0 then rC R t c 2 else if 7 ≤ rC R t c 0 then rC R t c 1 else 0) ∧
  (1 ≤ rC R t c 0 → rC R t c 0 ≤ 6 → (∃ a, rf σ k 3 = some a ∧ RepS R Im σ t 80 a (rC R t c 4) (rC R t c 5)) ∧
    (if rC R t c 0 = 1 ∨ rC R t c 0 = 5 then ∃ a, rf σ k 4 = some a ∧ RepS R Im σ t 80 a (rC R t c 6) (rC R t c 7) else rf σ k 4 = none ∧ rC R t c 6 = rC R t c 7) ∧
    (if rC R t c 8 < rC R t c 9 then ∃ a, rf σ k 5 = some a ∧ RepT R A M Im σ t 40 a (rC R t c 8) (rC R t c 9) else rf σ k 5 = none))
/-- a text's cell -/
def Ttx (R : Int → Int) (A : Nat → Int → Nat) (M : Nat → Nat) (Im : Nat → Prop) (σ : Sg) (t : Int) : Prop := Im (A 4 t) ∧ kk σ (A 4 t) = 34 ∧ gi σ (A 4 t) 0 = i3 t ∧ gi σ (A 4 t) 1 = i3 (rTx R t 0) ∧ ∃ l, rf σ (A 4 t) 2 = some l ∧ Im l ∧ Im (M l) ∧ Lsc σ A l (rTx R t 1) (M l) ∧ ∀ c : Int, 0 ≤ c → c < rTx R t 1 → Tcl R A M Im σ t c (A l c)
def Tld (R : Int → Int) (A : Nat → Int → Nat) (M : Nat → Nat) (Im : Nat → Prop) (σ : Sg) : Prop := (gi σ 1 18 = i3 (R 0) ∧ gi σ 1 19 = i3 (R 1)) ∧ (Lsc σ A 2 (R 2) (M 2) ∧ Lsc σ A 4 (R 3) (M 4) ∧ Lsc σ A 6 (R 4) (M 6) ∧ Lsc σ A 8 (R 5) (M 8)) ∧ (∀ p : Int, 0 ≤ p → p < R 0 → Tpl R σ p) ∧ (∀ s : Int, 0 ≤ s → s < R 1 → Tso R σ s) ∧ (∀ r : Int, 0 ≤ r → r < R 2 → Im (A 2 r) ∧ Trd R A σ r) ∧ (∀ t : Int, 0 ≤ t → t < R 3 → Ttx R A M Im σ t) ∧ (∀ k : Int, 0 ≤ k → k < R 4 → Im (A 6 k) ∧ kk σ (A 6 k) = 35 ∧ gi σ (A 6 k) 0 = i3 (rSl R k 0) ∧ gi σ (A 6 k) 1 = i3 (rSl R k 1) ∧ gi σ (A 6 k) 2 = i3 (rSl R k 2)) ∧ (∀ k : Int, 0 ≤ k → k < R 5 → Im (A 8 k) ∧ kk σ (A 8 k) = 35 ∧ gi σ (A 8 k) 0 = i3 (rOf R k 0) ∧ gi σ (A 8 k) 1 = i3 (rOf R k 1) ∧ gi σ (A 8 k) 2 = i3 (rOf R k 2) ∧ gi σ (A 8 k) 3 = i3 (rOf R k 3) ∧ gi σ (A 8 k) 4 = i3 (rOf R k 4)) ∧ (∀ h w : Int, 0 ≤ h → h < 8 → 0 ≤ w → w < 20 → gi σ 20 (20 * h + w).toNat = i3 (rSc R h w - 1)) ∧ (∀ i : Int, 0 ≤ i → i < 3612 → gi σ 21 i.toNat = i3 (if rS R i 0 = 0 then -1 else rS R i 1) ∧ (rS R i 0 ≠ 0 → gl σ 22 i.toNat = i6 (rS R i 2) ∧ gl σ 23 i.toNat = i6 (rS R i 3)))
def Kep (Im : Nat → Prop) (σ τ : Sg) : Prop := ∀ c, Im c → 93 ≤ c ∧ (∀ i, gi τ c i = gi σ c i) ∧ (∀ i, gr τ c i = gr σ c i) ∧ gk τ c = gk σ c
theorem kep_kd {Im : Nat → Prop} {σ τ : Sg} (h : Kep Im σ τ) {c : Nat} (g : Im c) : kdT true τ c = kdT true σ c := by
  have e : K1.length = 93 := rfl
  obtain ⟨h1, _, _, h4⟩ := h c g
  rw [kd_at (fun _ => by omega), kd_at (fun _ => by omega), h4]
theorem grT_dyn {σ : Sg} {c i : Nat} (h : 93 ≤ c) : grT true σ c i = gr σ c i := by
  have e : T1.length = 93 := rfl
  unfold grT stT am_tb
  simp only
  rw [List.getElem?_eq_none (by omega)]
theorem kep_rf {Im : Nat → Prop} {σ τ : Sg} (h : Kep Im σ τ) {c : Nat} (g : Im c) (i : Nat) : grT true τ c i = grT true σ c i := by
  obtain ⟨h1, _, h3, _⟩ := h c g
  rw [grT_dyn h1, grT_dyn h1, h3]
theorem kep_lsc {Im : Nat → Prop} {σ τ : Sg} (h : Kep Im σ τ) {A : Nat → Int → Nat} {l a : Nat} {n : Int} (g1 : Im l) (g2 : Im a) (g : Lsc σ A l n a) : Lsc τ A l n a := by
  unfold Lsc kk kn rf at *
  rw [kep_kd h g1, kep_kd h g2, kep_rf h g1, (h l g1).2.1]
  obtain ⟨g3, g4, g5, g6, g7, g8, g9, g10, g11, g12⟩ := g
  exact ⟨g3, g4, g5, g6, g7, g8, g9, g10, g11, fun i a b => by rw [(h _ g2).2.2.1]; exact g12 i a b⟩
theorem kep_repS {R : Int → Int} {Im : Nat → Prop} {σ τ : Sg} (h : Kep Im σ τ) (t : Int) : ∀ (n s : Nat) (lo hi : Int), RepS R Im σ t n s lo hi → RepS R Im τ t n s lo hi := by
  intro n
  induction n with
  | zero => intro s lo hi g; exact g
  | succ n ih =>
    rintro s lo hi ⟨g, q⟩
    refine ⟨g, ?_⟩
    unfold kk rf at *
    rw [kep_kd h g, (h s g).2.1 0, kep_rf h g 0, kep_rf h g 1, kep_rf h g 2]
    rcases q with q | q | ⟨q1, a, q2, q3, q4⟩ | ⟨q1, a, b, mid, q2, q3, q4, q5, q6⟩
    · exact Or.inl q
    · exact Or.inr (Or.inl q)
    · exact Or.inr (Or.inr (Or.inl ⟨q1, a, q2, ih _ _ _ q3, q4⟩))
    · exact Or.inr (Or.inr (Or.inr ⟨q1, a, b, mid, q2, q3, ih _ _ _ q4, ih _ _ _ q5, q6⟩))
theorem kep_repT {R : Int → Int} {A : Nat → Int → Nat} {M : Nat → Nat} {Im : Nat → Prop} {σ τ : Sg} (h : Kep Im σ τ) (t : Int) : ∀ (n s : Nat) (lo hi : Int), RepT R A M Im σ t n s lo hi → RepT R A M Im τ t n s lo hi := by
  intro n
  induction n with
  | zero => intro s lo hi g; exact g
  | succ n ih =>
    rintro s lo hi ⟨g, q⟩
    refine ⟨g, ?_⟩
    unfold kk rf at *
    rw [kep_kd h g, (h s g).2.1 0, kep_rf h g 0, kep_rf h g 1, kep_rf h g 2]
    rcases q with ⟨q1, a, b, mid, q2, q3, q4, q5, q6⟩ | ⟨q1, a, q2, q3, q4⟩ | ⟨q1, q2, q3⟩ | ⟨q1, l, m, q2, q3, q4, q5, q6, q7⟩
    · exact Or.inl ⟨q1, a, b, mid, q2, q3, kep_repS h t _ _ _ _ q4, kep_repS h t _ _ _ _ q5, q6⟩
    · exact Or.inr (Or.inl ⟨q1, a, q2, ih _ _ _ q3, q4⟩)
    · exact Or.inr (Or.inr (Or.inl ⟨ih _ _ _ q1, q2, q3⟩))
    · refine Or.inr (Or.inr (Or.inr ⟨q1, l, m, q2, q3, q4, kep_lsc h q3 q4 q5, q6, ?_⟩))
      rcases q7 with ⟨q7, P, q8, q9, q10⟩ | ⟨q7, P, q8, q9, q10⟩
      · exact Or.inl ⟨q7, P, q8, ih _ _ _ q9, fun i a b => ⟨(q10 i a b).1, (q10 i a b).2.1, ih _ _ _ (q10 i a b).2.2⟩⟩
      · exact Or.inr ⟨q7, P, q8, ih _ _ _ q9, fun i a b => ⟨(q10 i a b).1, (q10 i a b).2.1, ih _ _ _ (q10 i a b).2.2⟩⟩
theorem kep_tcl {R : Int → Int} {A : Nat → Int → Nat} {M : Nat → Nat} {Im : Nat → Prop} {σ τ : Sg} (h : Kep Im σ τ) {t c : Int} {k : Nat} (q : Tcl R A M Im σ t c k) : Tcl R A M Im τ t c k := by
  obtain ⟨g, q1, q2, q3, q4, q5⟩ := q
  unfold Tcl kk rf at *
  rw [kep_kd h g, (h k g).2.1, (h k g).2.1, (h k g).2.1, kep_rf h g, kep_rf h g, kep_rf h g]
  refine ⟨g, q1, q2, q3, q4, fun a b => ?_⟩
  obtain ⟨⟨a1, a2, a3⟩, b1, c1⟩ := q5 a b
  refine ⟨⟨a1, a2, kep_repS h t _ _ _ _ a3⟩, ?_, ?_⟩
  · by_cases e : rC R t c 0 = 1 ∨ rC R t c 0 = 5
    · rw [if_pos e] at *
      exact b1.elim fun x y => ⟨x, y.1, kep_repS h t _ _ _ _ y.2⟩
    · rw [if_neg e] at *
      exact b1
  · by_cases e : rC R t c 8 < rC R t c 9
    · rw [if_pos e] at *
      exact c1.elim fun x y => ⟨x, y.1, kep_repT h t _ _ _ _ y.2⟩
    · rw [if_neg e] at *
      exact c1
theorem kep_ttx {R : Int → Int} {A : Nat → Int → Nat} {M : Nat → Nat} {Im : Nat → Prop} {σ τ : Sg} (h : Kep Im σ τ) {t : Int} (q : Ttx R A M Im σ t) : Ttx R A M Im τ t := by
  obtain ⟨g, q1, q2, q3, l, q4, q5, q6, q7, q8⟩ := q
  unfold Ttx kk rf at *
  rw [kep_kd h g, (h _ g).2.1, (h _ g).2.1, kep_rf h g]
  exact ⟨g, q1, q2, q3, l, q4, q5, q6, kep_lsc h q5 q6 q7, fun c a b => kep_tcl h (q8 c a b)⟩
/-! scratch written: what was told stays -/
def tok (b : Nat) (cs : List Nat) : Bool := (b :: cs).all (fun x => Nat.blt x 93) && [1, 2, 4, 6, 8, 10, 11, 12, 13, 14, 15, 16, 17, 18, 19, 20, 21, 22, 23].all (fun x => !(b :: cs).elem x)
theorem tok_1 {b : Nat} {cs : List Nat} (h : tok b cs = true) : (b :: cs).all (fun x => Nat.blt x 93) = true := by
  unfold tok at h
  rw [Bool.and_eq_true] at h
  exact h.1
theorem tok_2 {b : Nat} {fs cs : List Nat} (h : tok b cs = true) {c : Nat} (g : [1, 2, 4, 6, 8, 10, 11, 12, 13, 14, 15, 16, 17, 18, 19, 20, 21, 22, 23].elem c = true) (i : Nat) : pw b fs cs c i = false := by
  unfold tok at h
  rw [Bool.and_eq_true] at h
  have h2 := List.all_eq_true.mp h.2 c (List.elem_iff.mp g)
  rw [Bool.not_eq_true', List.elem_cons] at h2
  have e : (c == b) = false := by
    cases e : (c == b) with
    | false => rfl
    | true => rw [e] at h2; cases h2
  rw [e] at h2
  have h2 : cs.elem c = false := h2
  have e : Nat.beq c b = false := by
    cases e2 : Nat.beq c b with
    | false => rfl
    | true => rw [Nat.eq_of_beq_eq_true e2] at e; simp at e
  unfold pw
  rw [h2, e]
  rfl
theorem fr_kep {Im : Nat → Prop} (hI : ∀ c, Im c → 93 ≤ c) {b : Nat} {fs cs : List Nat} {σ τ : Sg} (h : Frm b fs cs σ τ) (k : tok b cs = true) : Kep Im σ τ :=
  fun c g => ⟨hI c g, fun i => fr_gi h (pw_ge (tok_1 k) (hI c g)), fun i => h.2.2.1 c i, by rw [h.2.2.2.1]⟩
theorem fr_lsc {b : Nat} {fs cs : List Nat} {σ τ : Sg} (h : Frm b fs cs σ τ) {A : Nat → Int → Nat} {l a : Nat} {n : Int} (p : pw b fs cs l 2 = false) (g : Lsc σ A l n a) : Lsc τ A l n a := by
  unfold Lsc kk kn rf at *
  rw [fr_kd h, fr_kd h, fr_rf h, fr_gi h p]
  obtain ⟨g3, g4, g5, g6, g7, g8, g9, g10, g11, g12⟩ := g
  exact ⟨g3, g4, g5, g6, g7, g8, g9, g10, g11, fun i a b => by rw [h.2.2.1]; exact g12 i a b⟩
theorem tld_fr {R : Int → Int} {A : Nat → Int → Nat} {M : Nat → Nat} {Im : Nat → Prop} (hI : ∀ c, Im c → 93 ≤ c) {b : Nat} {fs cs : List Nat} {σ τ : Sg} (hT : Tld R A M Im σ) (h : Frm b fs cs σ τ) (k : tok b cs = true) : Tld R A M Im τ := by
  obtain ⟨⟨a1, a2⟩, ⟨l1, l2, l3, l4⟩, hp, hs, hr, ht, hsl, ho, hsc, hse⟩ := hT
  have kp := fr_kep hI h k
  have s := fun c (g : [1, 2, 4, 6, 8, 10, 11, 12, 13, 14, 15, 16, 17, 18, 19, 20, 21, 22, 23].elem c = true) i => fr_gi h (tok_2 k (fs := fs) g i)
  refine ⟨⟨(s 1 rfl 18).trans a1, (s 1 rfl 19).trans a2⟩, ⟨fr_lsc h (tok_2 k rfl 2) l1, fr_lsc h (tok_2 k rfl 2) l2, fr_lsc h (tok_2 k rfl 2) l3, fr_lsc h (tok_2 k rfl 2) l4⟩, ?_, ?_, ?_, ?_, ?_, ?_, ?_, ?_⟩
  · intro p g1 g2
    obtain ⟨b1, b2, b3⟩ := hp p g1 g2
    exact ⟨(s 10 rfl _).trans b1, fun m q1 q2 => ⟨(s 11 rfl _).trans (b2 m q1 q2).1, (s 12 rfl _).trans (b2 m q1 q2).2⟩, fun q q1 q2 => (s 13 rfl _).trans (b3 q q1 q2)⟩
  · intro p g1 g2
    obtain ⟨b1, b2, b3, b4⟩ := hs p g1 g2
    exact ⟨(s 14 rfl _).trans b1, (s 15 rfl _).trans b2, (s 16 rfl _).trans b3, (s 17 rfl _).trans b4⟩
  · intro r g1 g2
    obtain ⟨i, b1, b2, b3, b4, b5, b6, b7, b8, b9, b10, b11⟩ := hr r g1 g2
    have d := fun j => (kp _ i).2.1 j
    refine ⟨i, b1, ?_, (d 0).trans b3, (d 1).trans b4, (d 2).trans b5, (d 3).trans b6, (d 4).trans b7, (d 5).trans b8, fun q => (d 6).trans (b9 q), (s 18 rfl _).trans b10, (s 19 rfl _).trans b11⟩
    unfold kk at *
    rw [kep_kd kp i]
    exact b2
  · exact fun t g1 g2 => kep_ttx kp (ht t g1 g2)
  · intro r g1 g2
    obtain ⟨i, b2, b3, b4, b5⟩ := hsl r g1 g2
    have d := fun j => (kp _ i).2.1 j
    refine ⟨i, ?_, (d 0).trans b3, (d 1).trans b4, (d 2).trans b5⟩
    unfold kk at *
    rw [kep_kd kp i]
    exact b2
  · intro r g1 g2
    obtain ⟨i, b2, b3, b4, b5, b6, b7⟩ := ho r g1 g2
    have d := fun j => (kp _ i).2.1 j
    refine ⟨i, ?_, (d 0).trans b3, (d 1).trans b4, (d 2).trans b5, (d 3).trans b6, (d 4).trans b7⟩
    unfold kk at *
    rw [kep_kd kp i]
    exact b2
  · exact fun x w g1 g2 g3 g4 => (s 20 rfl _).trans (hsc x w g1 g2 g3 g4)
  · exact fun i g1 g2 => ⟨(s 21 rfl _).trans (hse i g1 g2).1, fun q => ⟨(fr_gl h (tok_2 k rfl _)).trans ((hse i g1 g2).2 q).1, (fr_gl h (tok_2 k rfl _)).trans ((hse i g1 g2).2 q).2⟩⟩
