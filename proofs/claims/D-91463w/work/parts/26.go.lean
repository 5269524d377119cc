/-! steps of the pure machine that look at the heap, or branch -/
set_option maxRecDepth 100000
abbrev kk (σ : Sg) (a : Nat) : Nat := (kdT true σ a).1
abbrev kn (σ : Sg) (a : Nat) : Nat := (kdT true σ a).2
abbrev rf (σ : Sg) (a k : Nat) : Option Nat := grT true σ a k
theorem lgc_lt (x y : Int64) : lg_cmp x y < 0 ↔ x < y := by
  unfold lg_cmp
  by_cases h : x > y
  · rw [if_pos h]; exact ⟨fun q => absurd q (by decide), fun q => absurd h (by show ¬ y < x; rw [Int64.lt_iff_toInt_lt] at *; omega)⟩
  · rw [if_neg h]
    by_cases h2 : x = y
    · rw [if_pos h2]; exact ⟨fun q => absurd q (by decide), fun q => absurd q (by rw [h2, Int64.lt_iff_toInt_lt]; omega)⟩
    · rw [if_neg h2]
      refine ⟨fun _ => ?_, fun _ => by decide⟩
      have h3 : ¬ y < x := h
      have h4 : x.toInt ≠ y.toInt := fun q => h2 (Int64.toInt_inj.mp q)
      rw [Int64.lt_iff_toInt_lt] at *; omega
theorem lgc_eq (x y : Int64) : lg_cmp x y = 0 ↔ x = y := by
  unfold lg_cmp
  by_cases h : x > y
  · rw [if_pos h]; exact ⟨fun q => absurd q (by decide), fun q => absurd h (by show ¬ y < x; rw [q, Int64.lt_iff_toInt_lt]; omega)⟩
  · rw [if_neg h]
    by_cases h2 : x = y
    · rw [if_pos h2]; exact ⟨fun _ => h2, fun _ => rfl⟩
    · rw [if_neg h2]; exact ⟨fun q => absurd q (by decide), fun q => absurd q h2⟩
theorem lgc_gt (x y : Int64) : 0 < lg_cmp x y ↔ y < x := by
  unfold lg_cmp
  by_cases h : x > y
  · rw [if_pos h]; exact ⟨fun _ => h, fun _ => by decide⟩
  · rw [if_neg h]
    by_cases h2 : x = y
    · rw [if_pos h2]; exact ⟨fun q => absurd q (by decide), fun q => absurd q h⟩
    · rw [if_neg h2]; exact ⟨fun q => absurd q (by decide), fun q => absurd q h⟩
theorem i32_nlt (x y : Int32) : ¬ x < y ↔ y ≤ x := by rw [Int32.lt_iff_toInt_lt, Int32.le_iff_toInt_le]; omega
theorem i32_nle (x y : Int32) : ¬ x ≤ y ↔ y < x := by rw [Int32.lt_iff_toInt_lt, Int32.le_iff_toInt_le]; omega
theorem i64_nlt (x y : Int64) : ¬ x < y ↔ y ≤ x := by rw [Int64.lt_iff_toInt_lt, Int64.le_iff_toInt_le]; omega
theorem lgc_ne (x y : Int64) : lg_cmp x y ≠ 0 ↔ x ≠ y := not_congr (lgc_eq x y)
theorem lgc_ge (x y : Int64) : 0 ≤ lg_cmp x y ↔ y ≤ x := by rw [← i32_nlt, lgc_lt, i64_nlt]
theorem lgc_le (x y : Int64) : lg_cmp x y ≤ 0 ↔ x ≤ y := by rw [← i32_nlt, lgc_gt, i64_nlt]
theorem tsn {x y : Int32} (h : ¬ x = y) : x.toInt ≠ y.toInt := fun q => h (Int32.toInt_inj.mp q)
theorem okb {c : Prop} [Decidable c] {a b : Int32} (ha : am_ok 3 a = true) (hb : am_ok 3 b = true) : am_ok 3 (if c then a else b) = true := by
  by_cases h : c
  · rw [if_pos h]; exact ha
  · rw [if_neg h]; exact hb
def am_outV (q : (Unit ⊕ (Nat × Nat)) × Sg) : Ou × Sg := match q with
  | (.inl _, σ) => (.inl none, σ)
  | (.inr e, σ) => (.inr e, σ)
def am_outI (q : (Int32 ⊕ (Nat × Nat)) × Sg) : Ou × Sg := match q with
  | (.inl v, σ) => (.inl (some (.int v)), σ)
  | (.inr e, σ) => (.inr e, σ)
def am_outL (q : (Int64 ⊕ (Nat × Nat)) × Sg) : Ou × Sg := match q with
  | (.inl v, σ) => (.inl (some (.long v)), σ)
  | (.inr e, σ) => (.inr e, σ)
def am_outF (q : (UInt32 ⊕ (Nat × Nat)) × Sg) : Ou × Sg := match q with
  | (.inl v, σ) => (.inl (some (.float v)), σ)
  | (.inr e, σ) => (.inr e, σ)
def am_outR (q : (Nat ⊕ (Nat × Nat)) × Sg) : Ou × Sg := match q with
  | (.inl v, σ) => (.inl (some (.ref v)), σ)
  | (.inr e, σ) => (.inr e, σ)
theorem am_bi_1 (md : Bool) (args : List Value) (σ : Sg) : am_bi md 20001 args σ = am_b1 md args σ := by
  unfold am_bi
  rw [if_neg (by decide), if_pos rfl]
theorem am_bi_2 (md : Bool) (args : List Value) (σ : Sg) : am_bi md 20002 args σ = am_b2 md args σ := by
  unfold am_bi
  rw [if_neg (by decide), if_neg (by decide), if_pos rfl]
theorem am_bi_3 (md : Bool) (args : List Value) (σ : Sg) : am_bi md 20003 args σ = am_b3 args σ := by
  unfold am_bi
  rw [if_neg (by decide), if_neg (by decide), if_neg (by decide), if_pos rfl]
theorem am_bi_4 (md : Bool) (args : List Value) (σ : Sg) : am_bi md 20004 args σ = am_b4 args σ := by
  unfold am_bi
  rw [if_neg (by decide), if_neg (by decide), if_neg (by decide), if_neg (by decide), if_pos rfl]
theorem am_bi_5 (md : Bool) (args : List Value) (σ : Sg) : am_bi md 20005 args σ = am_b5 args σ := by
  unfold am_bi
  rw [if_neg (by decide), if_neg (by decide), if_neg (by decide), if_neg (by decide), if_neg (by decide), if_pos rfl]
theorem am_bi_6 (md : Bool) (args : List Value) (σ : Sg) : am_bi md 20006 args σ = am_b6 md args σ := by
  unfold am_bi
  rw [if_neg (by decide), if_neg (by decide), if_neg (by decide), if_neg (by decide), if_neg (by decide), if_neg (by decide), if_pos rfl]
theorem am_bi_7 (md : Bool) (args : List Value) (σ : Sg) : am_bi md 20007 args σ = am_b7 md args σ := by
  unfold am_bi
  rw [if_neg (by decide), if_neg (by decide), if_neg (by decide), if_neg (by decide), if_neg (by decide), if_neg (by decide), if_neg (by decide), if_pos rfl]
theorem am_bi_8 (md : Bool) (args : List Value) (σ : Sg) : am_bi md 20008 args σ = am_b8 md args σ := by
  unfold am_bi
  rw [if_neg (by decide), if_neg (by decide), if_neg (by decide), if_neg (by decide), if_neg (by decide), if_neg (by decide), if_neg (by decide), if_neg (by decide), if_pos rfl]
theorem am_bi_kdo {md : Bool} {σ : Sg} {a : Nat} {q : Int32} (h : am_kdo (kdT md σ a).1 = some q) : am_bi md 20007 [.ref a] σ = some (some (.int q), σ) := by
  rw [am_bi_7]
  unfold am_b7
  dsimp only
  rw [h]
theorem am_bi_hdo {md : Bool} {σ : Sg} {a : Nat} {q : Int32} (h : am_hdo (kdT md σ a).1 = some q) : am_bi md 20008 [.ref a] σ = some (some (.int q), σ) := by
  rw [am_bi_8]
  unfold am_b8
  dsimp only
  rw [h]
theorem am_bi_cpy {md : Bool} {σ σ1 : Sg} {a b : Nat} {sp dp n : Int32} (h : am_cpy md σ a sp b dp n = some σ1) : am_bi md 20001 [.ref a, .int sp, .ref b, .int dp, .int n] σ = some (none, σ1) := by
  rw [am_bi_1]
  unfold am_b1
  dsimp only
  rw [h]
theorem am_bi_cof {md : Bool} {σ : Sg} {q : Nat × Sg} {a : Nat} {n : Int32} (h : am_cof md σ a n = some q) : am_bi md 20002 [.ref a, .int n] σ = some (some (.ref q.1), q.2) := by
  rw [am_bi_2]
  unfold am_b2
  dsimp only
  rw [h]
theorem am_bi_sln {md : Bool} {σ : Sg} {a : Nat} {q : Int32} (h : am_sln a = some q) : am_bi md 20004 [.ref a] σ = some (some (.int q), σ) := by
  rw [am_bi_4]
  unfold am_b4
  dsimp only
  rw [h]
theorem am_bi_sat {md : Bool} {σ : Sg} {a : Nat} {i q : Int32} (h : am_sat a i = some q) : am_bi md 20005 [.ref a, .int i] σ = some (some (.int q), σ) := by
  rw [am_bi_5]
  unfold am_b5
  dsimp only
  rw [h]
theorem am_bi_flt {md : Bool} {σ : Sg} {x : Int32} (h : x.toUInt32 &&& 0x7fffffff ≤ 0x7f800000) : am_bi md 20003 [.int x] σ = some (some (.float x.toUInt32), σ) := by
  rw [am_bi_3]
  unfold am_b3
  dsimp only
  rw [if_pos h]
theorem am_bi_exc {md : Bool} {σ : Sg} {a : Nat} (h : (kdT md σ a).1 = 24 ∨ (kdT md σ a).1 = 25) : am_bi md 20006 [.ref a, .null, .null, .int 0, .int 0] σ = some (none, wr (wr (wr (wr σ a 0 none) a 1 none) a 2 none) a 3 none) := by
  rw [am_bi_6]
  unfold am_b6
  dsimp only
  rw [if_pos ⟨rfl, rfl, h⟩]
section GO
variable {md : Bool} {d : Nat} {M : Mi} {pc len : Nat} {L : Lo} {st : List Value} {σ : Sg} {r : Ou × Sg}
theorem am_stp_e {L1 : Lo} (h : am_dead (am_dd M) pc L = L1) (h1 : am_dead (am_dd M) pc L1 = L1) : am_stp md M (pc, L1, st, σ) = am_stp md M (pc, L, st, σ) := by
  unfold am_stp
  dsimp only
  rw [h1, h]
/-- what is dead is forgotten -/
theorem go_e {L1 : Lo} (h : am_dead (am_dd M) pc L = L1) (h1 : am_dead (am_dd M) pc L1 = L1) (g : Go md d M (pc, L1, st, σ) r) : Go md d M (pc, L, st, σ) r := by
  obtain ⟨n, g⟩ := g
  refine ⟨n, ?_⟩
  cases n with
  | zero => cases g
  | succ n =>
    unfold am_ex at g ⊢
    rw [am_stp_e h h1] at g
    dsimp only at g ⊢
    rw [h1] at g
    rw [h]
    exact g
theorem am_stp_of {ins : Instr} (hf : am_fetch M pc = some (ins, len)) (hd : am_dead (am_dd M) pc L = L) : am_stp md M (pc, L, st, σ) = am_ins md M ins len pc L st σ := by
  unfold am_stp
  dsimp only
  rw [hf]
  dsimp only
  rw [hd]
theorem go_i {ins : Instr} {f : Fr} (hf : am_fetch M pc = some (ins, len)) (hd : am_dead (am_dd M) pc L = L) (hi : am_ins md M ins len pc L st σ = some (.inl f)) (g : Go md d M f r) : Go md d M (pc, L, st, σ) r := go_1 ((am_stp_of hf hd).trans hi) g
theorem go_it {c : Prop} {hc : Decidable c} {t f : Nat} {L1 : Lo} {st1 : List Value} {σ1 : Sg} (h : am_stp md M (pc, L, st, σ) = some (.inl (@ite _ c hc t f, L1, st1, σ1))) (h1 : c) (g : Go md d M (t, L1, st1, σ1) r) : Go md d M (pc, L, st, σ) r := go_1 (h.trans (by rw [if_pos h1])) g
theorem go_if {c : Prop} {hc : Decidable c} {t f : Nat} {L1 : Lo} {st1 : List Value} {σ1 : Sg} (h : am_stp md M (pc, L, st, σ) = some (.inl (@ite _ c hc t f, L1, st1, σ1))) (h1 : ¬ c) (g : Go md d M (f, L1, st1, σ1) r) : Go md d M (pc, L, st, σ) r := go_1 (h.trans (by rw [if_neg h1])) g
theorem go_get {i k ty fin a : Nat} {cs : List Nat} {rest : List Value} (hf : am_fetch M pc = some (.getfield i, 3)) (hd : am_dead (am_dd M) pc L = L) (hl : am_tb lkF (am_ow M) i = some (k, ty, fin, cs)) (hk : cs.elem (kdT md σ a).1 = true) (g : Go md d M (pc + 3, L, am_rf md σ a k ty :: rest, σ) r) : Go md d M (pc, L, .ref a :: rest, σ) r := by
  refine go_i hf hd ?_ g
  show am_get md M i pc L (.ref a :: rest) σ = _
  unfold am_get
  dsimp only
  rw [hl]
  dsimp only
  rw [if_pos hk]
  rfl
theorem go_puti {i k ty fin a : Nat} {x : Int32} {cs : List Nat} {rest : List Value} (hf : am_fetch M pc = some (.putfield i, 3)) (hd : am_dead (am_dd M) pc L = L) (hl : am_tb lkF (am_ow M) i = some (k, ty, fin, cs)) (hk : cs.elem (kdT md σ a).1 = true) (hw : (fin == 0 || fin == 1 && am_ct M) = true) (ho : am_ok ty x = true) (ht : (!(ty == 1 || ty == 2)) = true) (g : Go md d M (pc + 3, L, rest, wi σ a k x) r) : Go md d M (pc, L, .int x :: .ref a :: rest, σ) r := by
  refine go_i hf hd ?_ g
  show am_put md M i pc L (.int x :: .ref a :: rest) σ = _
  unfold am_put
  dsimp only
  rw [hl]
  dsimp only
  rw [hk, hw, ho, ht]
  rfl
theorem go_putl {i k fin a : Nat} {x : Int64} {cs : List Nat} {rest : List Value} (hf : am_fetch M pc = some (.putfield i, 3)) (hd : am_dead (am_dd M) pc L = L) (hl : am_tb lkF (am_ow M) i = some (k, 1, fin, cs)) (hk : cs.elem (kdT md σ a).1 = true) (hw : (fin == 0 || fin == 1 && am_ct M) = true) (g : Go md d M (pc + 3, L, rest, wl σ a k x) r) : Go md d M (pc, L, .long x :: .ref a :: rest, σ) r := by
  refine go_i hf hd ?_ g
  show am_put md M i pc L (.long x :: .ref a :: rest) σ = _
  unfold am_put
  dsimp only
  rw [hl]
  dsimp only
  rw [hk, hw]
  rfl
theorem go_putr {i k fin a b : Nat} {cs : List Nat} {rest : List Value} (hf : am_fetch M pc = some (.putfield i, 3)) (hd : am_dead (am_dd M) pc L = L) (hl : am_tb lkF (am_ow M) i = some (k, 2, fin, cs)) (hk : cs.elem (kdT md σ a).1 = true) (hw : (fin == 0 || fin == 1 && am_ct M) = true) (hs : (stT md a k).isNone = true) (g : Go md d M (pc + 3, L, rest, wr σ a k (some b)) r) : Go md d M (pc, L, .ref b :: .ref a :: rest, σ) r := by
  refine go_i hf hd ?_ g
  show am_put md M i pc L (.ref b :: .ref a :: rest) σ = _
  unfold am_put
  dsimp only
  rw [hl]
  dsimp only
  rw [hk, hw, hs]
  rfl
theorem go_putn {i k fin a : Nat} {cs : List Nat} {rest : List Value} (hf : am_fetch M pc = some (.putfield i, 3)) (hd : am_dead (am_dd M) pc L = L) (hl : am_tb lkF (am_ow M) i = some (k, 2, fin, cs)) (hk : cs.elem (kdT md σ a).1 = true) (hw : (fin == 0 || fin == 1 && am_ct M) = true) (hs : (stT md a k).isNone = true) (g : Go md d M (pc + 3, L, rest, wr σ a k none) r) : Go md d M (pc, L, .null :: .ref a :: rest, σ) r := by
  refine go_i hf hd ?_ g
  show am_put md M i pc L (.null :: .ref a :: rest) σ = _
  unfold am_put
  dsimp only
  rw [hl]
  dsimp only
  rw [hk, hw, hs]
  rfl
theorem go_iald {a : Nat} {i : Int32} {rest : List Value} (hf : am_fetch M pc = some (.iaload, len)) (hd : am_dead (am_dd M) pc L = L) (hk : (kdT md σ a).1 = 1) (hi : inb i (kdT md σ a).2) (g : Go md d M (pc + 1, L, .int (gi σ a i.toNatClampNeg) :: rest, σ) r) : Go md d M (pc, L, .int i :: .ref a :: rest, σ) r :=
  go_i hf hd (by show (if (kdT md σ a).1 = 1 then (if inb i (kdT md σ a).2 then _ else none) else none) = _; rw [if_pos hk, if_pos hi]; rfl) g
theorem go_lald {a : Nat} {i : Int32} {rest : List Value} (hf : am_fetch M pc = some (.laload, len)) (hd : am_dead (am_dd M) pc L = L) (hk : (kdT md σ a).1 = 2) (hi : inb i (kdT md σ a).2) (g : Go md d M (pc + 1, L, .long (gl σ a i.toNatClampNeg) :: rest, σ) r) : Go md d M (pc, L, .int i :: .ref a :: rest, σ) r :=
  go_i hf hd (by show (if (kdT md σ a).1 = 2 then (if inb i (kdT md σ a).2 then _ else none) else none) = _; rw [if_pos hk, if_pos hi]; rfl) g
theorem go_bald {a : Nat} {i : Int32} {rest : List Value} (hf : am_fetch M pc = some (.baload, len)) (hd : am_dead (am_dd M) pc L = L) (hk : (kdT md σ a).1 = 3 ∨ (kdT md σ a).1 = 4) (hi : inb i (kdT md σ a).2) (g : Go md d M (pc + 1, L, .int (gi σ a i.toNatClampNeg) :: rest, σ) r) : Go md d M (pc, L, .int i :: .ref a :: rest, σ) r :=
  go_i hf hd (by show (if (kdT md σ a).1 = 3 ∨ (kdT md σ a).1 = 4 then (if inb i (kdT md σ a).2 then _ else _) else none) = _; rw [if_pos hk, if_pos hi]; rfl) g
theorem go_aald {a : Nat} {i : Int32} {rest : List Value} (hf : am_fetch M pc = some (.aaload, len)) (hd : am_dead (am_dd M) pc L = L) (hk : (kdT md σ a).1 = 5 ∨ (kdT md σ a).1 = 6) (hi : inb i (kdT md σ a).2) (g : Go md d M (pc + 1, L, va_rf (gr σ a i.toNatClampNeg) :: rest, σ) r) : Go md d M (pc, L, .int i :: .ref a :: rest, σ) r :=
  go_i hf hd (by show (if (kdT md σ a).1 = 5 ∨ (kdT md σ a).1 = 6 then (if inb i (kdT md σ a).2 then _ else none) else none) = _; rw [if_pos hk, if_pos hi]; rfl) g
theorem go_iast {a : Nat} {i x : Int32} {rest : List Value} (hf : am_fetch M pc = some (.iastore, len)) (hd : am_dead (am_dd M) pc L = L) (hk : (kdT md σ a).1 = 1) (hi : inb i (kdT md σ a).2) (g : Go md d M (pc + 1, L, rest, wi σ a i.toNatClampNeg x) r) : Go md d M (pc, L, .int x :: .int i :: .ref a :: rest, σ) r :=
  go_i hf hd (by show (if (kdT md σ a).1 = 1 then (if inb i (kdT md σ a).2 then _ else none) else none) = _; rw [if_pos hk, if_pos hi]; rfl) g
theorem go_last {a : Nat} {i : Int32} {x : Int64} {rest : List Value} (hf : am_fetch M pc = some (.lastore, len)) (hd : am_dead (am_dd M) pc L = L) (hk : (kdT md σ a).1 = 2) (hi : inb i (kdT md σ a).2) (g : Go md d M (pc + 1, L, rest, wl σ a i.toNatClampNeg x) r) : Go md d M (pc, L, .long x :: .int i :: .ref a :: rest, σ) r :=
  go_i hf hd (by show (if (kdT md σ a).1 = 2 then (if inb i (kdT md σ a).2 then _ else none) else none) = _; rw [if_pos hk, if_pos hi]; rfl) g
theorem go_bast {a : Nat} {i x : Int32} {rest : List Value} (hf : am_fetch M pc = some (.bastore, len)) (hd : am_dead (am_dd M) pc L = L) (hk : (kdT md σ a).1 = 3 ∨ (kdT md σ a).1 = 4) (hi : inb i (kdT md σ a).2) (g : Go md d M (pc + 1, L, rest, wi σ a i.toNatClampNeg (am_nr (kdT md σ a).1 x)) r) : Go md d M (pc, L, .int x :: .int i :: .ref a :: rest, σ) r :=
  go_i hf hd (by show (if (kdT md σ a).1 = 3 ∨ (kdT md σ a).1 = 4 then (if inb i (kdT md σ a).2 then _ else none) else none) = _; rw [if_pos hk, if_pos hi]; rfl) g
theorem go_aast {a x : Nat} {i : Int32} {rest : List Value} (hf : am_fetch M pc = some (.aastore, len)) (hd : am_dead (am_dd M) pc L = L) (hk : (kdT md σ a).1 = 5 ∧ 10 ≤ (kdT md σ x).1 ∨ (kdT md σ a).1 = 6 ∧ (kdT md σ x).1 = 11) (hi : inb i (kdT md σ a).2) (g : Go md d M (pc + 1, L, rest, wr σ a i.toNatClampNeg (some x)) r) : Go md d M (pc, L, .ref x :: .int i :: .ref a :: rest, σ) r :=
  go_i hf hd (by show (if _ then (if inb i (kdT md σ a).2 then _ else none) else none) = _; rw [if_pos hk, if_pos hi]; rfl) g
theorem go_aasn {a : Nat} {i : Int32} {rest : List Value} (hf : am_fetch M pc = some (.aastore, len)) (hd : am_dead (am_dd M) pc L = L) (hk : (kdT md σ a).1 = 5) (hi : inb i (kdT md σ a).2) (g : Go md d M (pc + 1, L, rest, wr σ a i.toNatClampNeg none) r) : Go md d M (pc, L, .null :: .int i :: .ref a :: rest, σ) r :=
  go_i hf hd (by show (if _ then (if inb i (kdT md σ a).2 then _ else none) else none) = _; rw [if_pos hk, if_pos hi]; rfl) g
theorem go_alen {a : Nat} {rest : List Value} (hf : am_fetch M pc = some (.arraylength, len)) (hd : am_dead (am_dd M) pc L = L) (hk : 1 ≤ (kdT md σ a).1 ∧ (kdT md σ a).1 ≤ 6) (g : Go md d M (pc + 1, L, .int (Int32.ofNat (kdT md σ a).2) :: rest, σ) r) : Go md d M (pc, L, .ref a :: rest, σ) r :=
  go_i hf hd (by show (if 1 ≤ (kdT md σ a).1 ∧ (kdT md σ a).1 ≤ 6 then _ else none) = _; rw [if_pos hk]; rfl) g
theorem go_cast {i a : Nat} {cs : List Nat} {th : Bool} {rest : List Value} (hf : am_fetch M pc = some (.checkcast i, len)) (hd : am_dead (am_dd M) pc L = L) (hl : am_tb lkC (am_ow M) i = some (cs, th)) (hk : cs.elem (kdT md σ a).1 = true) (g : Go md d M (pc + 3, L, .ref a :: rest, σ) r) : Go md d M (pc, L, .ref a :: rest, σ) r :=
  go_i hf hd (by show (match am_tb lkC (am_ow M) i with | some (cs, th) => (if cs.elem (kdT md σ a).1 then _ else _) | none => none) = _; rw [hl]; dsimp only; rw [if_pos hk]; rfl) g
theorem go_idiv {x y : Int32} {rest : List Value} (hf : am_fetch M pc = some (.idiv, len)) (hd : am_dead (am_dd M) pc L = L) (hk : ¬ y = 0) (g : Go md d M (pc + 1, L, .int (x / y) :: rest, σ) r) : Go md d M (pc, L, .int y :: .int x :: rest, σ) r :=
  go_i hf hd (by show (if y = 0 then none else _) = _; rw [if_neg hk]; rfl) g
theorem go_irem {x y : Int32} {rest : List Value} (hf : am_fetch M pc = some (.irem, len)) (hd : am_dead (am_dd M) pc L = L) (hk : ¬ y = 0) (g : Go md d M (pc + 1, L, .int (x - x / y * y) :: rest, σ) r) : Go md d M (pc, L, .int y :: .int x :: rest, σ) r :=
  go_i hf hd (by show (if y = 0 then none else _) = _; rw [if_neg hk]; rfl) g
theorem go_ldiv {x y : Int64} {rest : List Value} (hf : am_fetch M pc = some (.ldiv, len)) (hd : am_dead (am_dd M) pc L = L) (hk : ¬ y = 0) (g : Go md d M (pc + 1, L, .long (x / y) :: rest, σ) r) : Go md d M (pc, L, .long y :: .long x :: rest, σ) r :=
  go_i hf hd (by show (if y = 0 then none else _) = _; rw [if_neg hk]; rfl) g
theorem go_lrem {x y : Int64} {rest : List Value} (hf : am_fetch M pc = some (.lrem, len)) (hd : am_dead (am_dd M) pc L = L) (hk : ¬ y = 0) (g : Go md d M (pc + 1, L, .long (x - x / y * y) :: rest, σ) r) : Go md d M (pc, L, .long y :: .long x :: rest, σ) r :=
  go_i hf hd (by show (if y = 0 then none else _) = _; rw [if_neg hk]; rfl) g
theorem go_ret {x : Int32} (hf : am_fetch M pc = some (.ireturn, len)) (hd : am_dead (am_dd M) pc L = L) (hk : am_rk M = 1 ∨ ((am_rk M = 2 ∧ am_ok 3 x = true) ∨ (am_rk M = 7 ∧ am_ok 4 x = true) ∨ (am_rk M = 6 ∧ am_ok 5 x = true))) : Go md d M (pc, L, [.int x], σ) (.inl (some (.int x)), σ) := by
  refine go_r ((am_stp_of hf hd).trans ?_)
  show (if am_rk M = 1 ∨ ((am_rk M = 2 ∧ am_ok 3 x = true) ∨ (am_rk M = 7 ∧ am_ok 4 x = true) ∨ (am_rk M = 6 ∧ am_ok 5 x = true)) then _ else none) = _
  rw [if_pos hk]; rfl
theorem go_new {i c n : Nat} {σ1 : Sg} (hf : am_fetch M pc = some (.new i, len)) (hd : am_dead (am_dd M) pc L = L) (hl : am_tb lkN (am_ow M) i = some (c, n)) (hn : am_new σ (c, 0) n = some σ1) (g : Go md d M (pc + 3, L, .ref (gz σ) :: st, σ1) r) : Go md d M (pc, L, st, σ) r :=
  go_i hf hd (by show (match am_tb lkN (am_ow M) i with | some (c, n) => (match am_new σ (c, 0) n with | some σ1 => _ | none => none) | none => none) = _; rw [hl]; dsimp only; rw [hn]; rfl) g
theorem go_newarr {ty : ArrayType} {q : Nat} {n : Int32} {σ1 : Sg} {rest : List Value} (hf : am_fetch M pc = some (.newarray ty, len)) (hd : am_dead (am_dd M) pc L = L) (hq : am_art ty = q + 1) (h0 : ¬ n < 0) (hn : am_new σ (q + 1, n.toNatClampNeg) n.toNatClampNeg = some σ1) (g : Go md d M (pc + 2, L, .ref (gz σ) :: rest, σ1) r) : Go md d M (pc, L, .int n :: rest, σ) r :=
  go_i hf hd (by show (if n < 0 then none else match am_art ty with | 0 => none | q + 1 => (match am_new σ (q + 1, n.toNatClampNeg) n.toNatClampNeg with | some σ1 => _ | none => none)) = _; rw [if_neg h0, hq]; dsimp only; rw [hn]; rfl) g
theorem go_anew {i q : Nat} {n : Int32} {σ1 : Sg} {rest : List Value} (hf : am_fetch M pc = some (.anewarray i, len)) (hd : am_dead (am_dd M) pc L = L) (hq : am_tb lkA (am_ow M) i = some q) (h0 : ¬ n < 0) (hn : am_new σ (q, n.toNatClampNeg) n.toNatClampNeg = some σ1) (g : Go md d M (pc + 3, L, .ref (gz σ) :: rest, σ1) r) : Go md d M (pc, L, .int n :: rest, σ) r :=
  go_i hf hd (by show (if n < 0 then none else match am_tb lkA (am_ow M) i with | some q => (match am_new σ (q, n.toNatClampNeg) n.toNatClampNeg with | some σ1 => _ | none => none) | none => none) = _; rw [if_neg h0, hq]; dsimp only; rw [hn]; rfl) g
theorem go_m {f : Fr} {fr : Fr} (g : Go md d M f r) (k : Go md d M f r → Go md d M fr r) : Go md d M fr r := k g
def am_ts (pc : Nat) (dflt lo hi : Int) (offs : Array Int) (x : Int32) : Option Nat := if x.toInt < lo ∨ hi < x.toInt then some (am_tg pc dflt) else match offs[(x.toInt - lo).toNat]? with
  | some off => some (am_tg pc off)
  | none => none
theorem go_tsw {x : Int32} {dflt lo hi : Int} {offs : Array Int} {t : Nat} {rest : List Value} (hf : am_fetch M pc = some (.tableswitch dflt lo hi offs, len)) (hd : am_dead (am_dd M) pc L = L) (ht : am_ts pc dflt lo hi offs x = some t) (g : Go md d M (t, L, rest, σ) r) : Go md d M (pc, L, .int x :: rest, σ) r := by
  refine go_i hf hd ?_ g
  show (if x.toInt < lo ∨ hi < x.toInt then _ else match offs[(x.toInt - lo).toNat]? with | some off => _ | none => none) = _
  unfold am_ts at ht
  by_cases h : x.toInt < lo ∨ hi < x.toInt
  · rw [if_pos h] at ht ⊢
    cases ht
    rfl
  · rw [if_neg h] at ht ⊢
    split at ht
    · rename_i h2
      cases ht
      rfl
    · cases ht
theorem go_f2d {x : UInt32} {rest : List Value} (hf : am_fetch M pc = some (.f2d, len)) (hd : am_dead (am_dd M) pc L = L) (hk : am_n64 (FP.f2d x) = true) (g : Go md d M (pc + 1, L, .double (FP.f2d x) :: rest, σ) r) : Go md d M (pc, L, .float x :: rest, σ) r :=
  go_i hf hd (by show (if am_n64 (FP.f2d x) then _ else none) = _; rw [if_pos hk]; rfl) g
theorem go_dadd {x y : UInt64} {rest : List Value} (hf : am_fetch M pc = some (.dadd, len)) (hd : am_dead (am_dd M) pc L = L) (hk : am_n64 (FP.dadd x y) = true) (g : Go md d M (pc + 1, L, .double (FP.dadd x y) :: rest, σ) r) : Go md d M (pc, L, .double y :: .double x :: rest, σ) r :=
  go_i hf hd (by show (if am_n64 (FP.dadd x y) then _ else none) = _; rw [if_pos hk]; rfl) g
theorem go_dsub {x y : UInt64} {rest : List Value} (hf : am_fetch M pc = some (.dsub, len)) (hd : am_dead (am_dd M) pc L = L) (hk : am_n64 (FP.dsub x y) = true) (g : Go md d M (pc + 1, L, .double (FP.dsub x y) :: rest, σ) r) : Go md d M (pc, L, .double y :: .double x :: rest, σ) r :=
  go_i hf hd (by show (if am_n64 (FP.dsub x y) then _ else none) = _; rw [if_pos hk]; rfl) g
theorem go_dmul {x y : UInt64} {rest : List Value} (hf : am_fetch M pc = some (.dmul, len)) (hd : am_dead (am_dd M) pc L = L) (hk : am_n64 (FP.dmul x y) = true) (g : Go md d M (pc + 1, L, .double (FP.dmul x y) :: rest, σ) r) : Go md d M (pc, L, .double y :: .double x :: rest, σ) r :=
  go_i hf hd (by show (if am_n64 (FP.dmul x y) then _ else none) = _; rw [if_pos hk]; rfl) g
theorem am_thr24 {a : Nat} {rest : List Value} (hf : am_fetch M pc = some (.athrow, len)) (hd : am_dead (am_dd M) pc L = L) (hk : (kdT md σ a).1 = 24) : am_stp md M (pc, L, .ref a :: rest, σ) = some (.inr (.inl (.inr (1, a), σ))) := by
  refine (am_stp_of hf hd).trans ?_
  cases rest with
  | nil => show (match (kdT md σ a).1 with | 24 => _ | 25 => _ | _ => none) = _; rw [hk]; rfl
  | cons v r => show (match (kdT md σ a).1 with | 24 => _ | 25 => _ | _ => none) = _; rw [hk]; rfl
theorem am_thr25 {a : Nat} {rest : List Value} (hf : am_fetch M pc = some (.athrow, len)) (hd : am_dead (am_dd M) pc L = L) (hk : (kdT md σ a).1 = 25) : am_stp md M (pc, L, .ref a :: rest, σ) = some (.inr (.inl (.inr (2, a), σ))) := by
  refine (am_stp_of hf hd).trans ?_
  cases rest with
  | nil => show (match (kdT md σ a).1 with | 24 => _ | 25 => _ | _ => none) = _; rw [hk]; rfl
  | cons v r => show (match (kdT md σ a).1 with | 24 => _ | 25 => _ | _ => none) = _; rw [hk]; rfl
theorem go_castx {i a : Nat} {cs : List Nat} {rest : List Value} {f : Fr} (hf : am_fetch M pc = some (.checkcast i, len)) (hd : am_dead (am_dd M) pc L = L) (hl : am_tb lkC (am_ow M) i = some (cs, true)) (hk : ¬ cs.elem (kdT md σ a).1 = true) (h10 : 17 ≤ (kdT md σ a).1 ∧ (kdT md σ a).1 ≤ 21) (hw : am_wd rest ≤ 8) (hc : am_cat M pc 4 0 L σ = some f) (g : Go md d M f r) : Go md d M (pc, L, .ref a :: rest, σ) r := by
  refine go_tc (ec := 4) (a := 0) (σ := σ) ((am_stp_of hf hd).trans ?_) ?_ g
  · show (match am_tb lkC (am_ow M) i with | some (cs, th) => (if cs.elem (kdT md σ a).1 then _ else if th = true ∧ (17 ≤ (kdT md σ a).1 ∧ (kdT md σ a).1 ≤ 21) ∧ am_wd rest ≤ 8 then _ else none) | none => none) = _
    rw [hl]
    dsimp only
    rw [if_neg hk, if_pos ⟨rfl, h10, hw⟩]
  · dsimp only
    rw [hd]
    exact hc
theorem go_baldx {a : Nat} {i : Int32} {rest : List Value} (hf : am_fetch M pc = some (.baload, len)) (hd : am_dead (am_dd M) pc L = L) (hk : (kdT md σ a).1 = 3) (hi : ¬ inb i (kdT md σ a).2) (hn : (kdT md σ a).2 ≤ 1000000) (hw : am_wd rest ≤ 8) (ho : am_ow M = 26) (hc : am_hh M = []) : Go md d M (pc, L, .int i :: .ref a :: rest, σ) (.inr (3, 0), σ) := by
  refine go_t ((am_stp_of hf hd).trans ?_) ?_
  · show (if (kdT md σ a).1 = 3 ∨ (kdT md σ a).1 = 4 then (if inb i (kdT md σ a).2 then _ else (if am_ow M = 26 ∧ (kdT md σ a).1 = 3 ∧ am_wd rest ≤ 8 ∧ (kdT md σ a).2 ≤ 1000000 then _ else none)) else none) = _
    rw [if_pos (Or.inl hk), if_neg hi, if_pos ⟨ho, hk, hw, hn⟩]
  · unfold am_cat
    rw [hc]
    rfl
/-- a call whose method goes by the receiver's kind -/
theorem am_callV {idx n a mid : Nat} {ds : List (Nat × Nat)} {tl : List Value} (hl : am_tb lkM (am_ow M) idx = some (n, 1, ds)) (hw : n ≤ st.length ∧ am_wd (st.drop n) ≤ 8) (ha : (st.take n).reverse = .ref a :: tl) (hk : am_dis ds (kdT md σ a).1 = some mid) : am_call md M idx len pc L st σ = some (.inr (.inr (mid, .ref a :: tl, pc + len, L, st.drop n, σ))) := by
  unfold am_call
  rw [hl]
  dsimp only
  rw [if_pos hw, ha]
  dsimp only
  rw [hk]
  rfl
theorem stp_callV {idx n a mid : Nat} {ds : List (Nat × Nat)} {tl : List Value} (hf : am_fetch M pc = some (.invokevirtual idx, 3)) (hd : am_dead (am_dd M) pc L = L) (hl : am_tb lkM (am_ow M) idx = some (n, 1, ds)) (hw : n ≤ st.length ∧ am_wd (st.drop n) ≤ 8) (ha : (st.take n).reverse = .ref a :: tl) (hk : am_dis ds (kdT md σ a).1 = some mid) : am_stp md M (pc, L, st, σ) = some (.inr (.inr (mid, .ref a :: tl, pc + 3, L, st.drop n, σ))) := (am_stp_of hf hd).trans (am_callV hl hw ha hk)
end GO
