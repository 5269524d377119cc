/-! SOUNDNESS 0: how the pure machine's heap and frames lie in the machine's -/
set_option maxRecDepth 100000
def mv (ad : Nat → Nat) (v : Value) : Value := match v with
  | .ref a => .ref (ad a)
  | v => v
theorem mv_cat (ad : Nat → Nat) (v : Value) : (mv ad v).category = v.category := by cases v <;> rfl
theorem mv_rf (ad : Nat → Nat) (x : Option Nat) : mv ad (va_rf x) = va_rf (x.map ad) := by cases x <;> rfl
def e_v (ad : Nat → Nat) (md : Bool) (σ : Sg) (a k t : Nat) : Value := match t with
  | 1 => .long (gl σ a k)
  | 2 => va_rf ((grT md σ a k).map ad)
  | _ => .int (gi σ a k)
def e_f (c : Nat) : List Nat := CTY.getD (c - 10) []
def e_E (ad dA : Nat → Nat) (md : Bool) (σ : Sg) (a : Nat) : va_E :=
  if (kdT md σ a).1 = 1 then .inl (dA 1, (kdT md σ a).2, .inl (gi σ a))
  else if (kdT md σ a).1 = 2 then .inl (dA 2, (kdT md σ a).2, .inr (.inl (gl σ a)))
  else if (kdT md σ a).1 = 3 then .inl (dA 3, (kdT md σ a).2, .inl (gi σ a))
  else if (kdT md σ a).1 = 4 then .inl (dA 4, (kdT md σ a).2, .inl (gi σ a))
  else if (kdT md σ a).1 ≤ 6 then .inl (dA (kdT md σ a).1, (kdT md σ a).2, .inr (.inr (.inr (.inr (fun i => (gr σ a i).map ad)))))
  else .inr ((kdT md σ a).1 - 10, (e_f (kdT md σ a).1).mapIdx (fun k t => e_v ad md σ a k t))
def e_W (ad dA : Nat → Nat) (md : Bool) (σ : Sg) : va_W := (List.range (gz σ)).map (fun a => (ad a, e_E ad dA md σ a))
theorem e_at {ad dA : Nat → Nat} {md : Bool} {σ : Sg} {a : Nat} (h : a < gz σ) : (e_W ad dA md σ)[a]? = some (ad a, e_E ad dA md σ a) := by
  unfold e_W
  rw [List.getElem?_map, List.getElem?_range h]
  rfl
theorem e_len {ad dA : Nat → Nat} {md : Bool} {σ : Sg} : (e_W ad dA md σ).length = gz σ := by
  unfold e_W
  rw [List.length_map, List.length_range]
theorem e_set {ad dA : Nat → Nat} {md : Bool} {σ τ : Sg} {a : Nat} (hz : gz τ = gz σ) (he : ∀ b, b ≠ a → e_E ad dA md τ b = e_E ad dA md σ b) : (e_W ad dA md σ).set a (ad a, e_E ad dA md τ a) = e_W ad dA md τ := by
  apply List.ext_getElem?
  intro i
  by_cases hi : i < gz σ
  · by_cases hia : i = a
    · subst hia
      rw [List.getElem?_set_self (by rw [e_len]; exact hi), e_at (by rw [hz]; exact hi)]
    · rw [List.getElem?_set_ne (Ne.symm hia), e_at hi, e_at (by rw [hz]; exact hi), he i hia]
  · rw [List.getElem?_eq_none (by rw [List.length_set, e_len]; omega), List.getElem?_eq_none (by rw [e_len, hz]; omega)]
/-- addresses with one more -/
def upA (ad : Nat → Nat) (z q : Nat) : Nat → Nat := fun a => if a = z then q else ad a
theorem e_push {ad ad1 dA : Nat → Nat} {md : Bool} {σ τ : Sg} {q : Nat} {e : va_E} (hz : gz τ = gz σ + 1) (hq : ad1 (gz σ) = q) (he : e_E ad1 dA md τ (gz σ) = e) (ha : ∀ b, b < gz σ → ad1 b = ad b) (hb : ∀ b, b < gz σ → e_E ad1 dA md τ b = e_E ad dA md σ b) : e_W ad dA md σ ++ [(q, e)] = e_W ad1 dA md τ := by
  apply List.ext_getElem?
  intro i
  by_cases hi : i < gz σ
  · rw [List.getElem?_append_left (by rw [e_len]; exact hi), e_at hi, e_at (by rw [hz]; omega), ha i hi, hb i hi]
  · rw [List.getElem?_append_right (by rw [e_len]; omega), e_len]
    by_cases h2 : i = gz σ
    · subst h2
      rw [Nat.sub_self, e_at (by rw [hz]; omega), hq, he]
      rfl
    · rw [List.getElem?_eq_none (by rw [List.length_singleton]; omega), List.getElem?_eq_none (by rw [e_len, hz]; omega)]
/-- a kind that is one -/
def kOK (c : Nat) : Prop := 1 ≤ c ∧ (c ≤ 6 ∨ (10 ≤ c ∧ c < 37))
def vokN (σ : Sg) (b : Nat) : Prop := b < gz σ ∨ 1000000 ≤ b
def WFs (md : Bool) (σ : Sg) : Prop := (∀ a, a < gz σ → kOK (kdT md σ a).1) ∧ (∀ a k b, a < gz σ → grT md σ a k = some b → vokN σ b) ∧ (∀ a k b, a < gz σ → gr σ a k = some b → vokN σ b) ∧ gz σ ≤ 500000 ∧ 0 ≤ gs σ ∧ (∀ a, gz σ ≤ a → (kdT md σ a).1 = 0) ∧ (∀ a k, (kdT md σ a).1 = 3 → (gi σ a k).toInt8.toInt32 = gi σ a k) ∧ ∀ a k b, (kdT md σ a).1 = 5 → gr σ a k = some b → 10 ≤ (kdT md σ b).1
def TYS (dA : Nat → Nat) : List (ClassId × FieldType) := [(dA 1, .int), (dA 2, .long), (dA 3, .byte), (dA 4, .boolean), (dA 5, .object "java/lang/Object"), (dA 6, .object "OldWeather$Told")]
def WO (D : va_G) (dA : Nat → Nat) (md : Bool) (A : Nat → Prop) (s : State) (ad : Nat → Nat) (σ : Sg) (H : Heap) (locs : List Loc) : Prop := va_P D CL (e_W ad dA md σ) H ∧ va_D A (e_W ad dA md σ) ∧ va_S A s.heap H locs ∧ WFs md σ
def vok (σ : Sg) (v : Value) : Prop := match v with
  | .ref a => vokN σ a
  | _ => True
def VOK (σ : Sg) (L : Lo) (st : List Value) : Prop := (∀ v ∈ st, vok σ v) ∧ ∀ (i : Nat) (v : Value), L[i]? = some (some v) → vok σ v
/-- locals -/
def lvR (ad : Nat → Nat) (L : Lo) (ls : Array Slot) (n : Nat) : Prop := L.length = n ∧ ls.size = n ∧ lv_wf ls ∧ ∀ (i : Nat) (v : Value), L[i]? = some (some v) → ls[i]? = some (.val (mv ad v))
def toL (ad : Nat → Nat) (L : Lo) : List (Nat × Value) := (List.range L.length).filterMap (fun i => match L[i]? with
  | some (some v) => some (i, mv ad v)
  | _ => none)
theorem mem_toL {ad : Nat → Nat} {L : Lo} {q : Nat × Value} : q ∈ toL ad L ↔ ∃ v, L[q.1]? = some (some v) ∧ q.2 = mv ad v := by
  unfold toL
  rw [List.mem_filterMap]
  constructor
  · rintro ⟨i, -, h⟩
    split at h
    · rename_i v hv
      cases h
      exact ⟨v, hv, rfl⟩
    · cases h
  · rintro ⟨v, h1, h2⟩
    refine ⟨q.1, List.mem_range.mpr (List.getElem?_eq_some_iff.mp h1).1, ?_⟩
    rw [h1]
    obtain ⟨i, w⟩ := q
    dsimp only at h2 ⊢
    rw [h2]
theorem lvR.has {ad : Nat → Nat} {L : Lo} {ls : Array Slot} {n : Nat} (h : lvR ad L ls n) : lv_has ls n (toL ad L) := by
  refine ⟨h.2.1, h.2.2.1, fun q hq => ?_⟩
  obtain ⟨v, h1, h2⟩ := mem_toL.mp hq
  rw [h2]
  exact h.2.2.2 _ _ h1
theorem lvR.of {ad : Nat → Nat} {L1 : Lo} {ls : Array Slot} {n : Nat} {l : List (Nat × Value)} (h : lv_has ls n l) (hl : L1.length = n) (hm : ∀ (i : Nat) (v : Value), L1[i]? = some (some v) → (i, mv ad v) ∈ l) : lvR ad L1 ls n := ⟨hl, h.1, h.2.1, fun i v hv => h.2.2 _ (hm i v hv)⟩
theorem kl_len (L : Lo) (i : Nat) : (am_kl L i).length = L.length := by
  unfold am_kl
  split
  · rfl
  · split <;> simp
theorem kl_at {L : Lo} {i j : Nat} {v : Value} (h : (am_kl L i)[j]? = some (some v)) : L[j]? = some (some v) ∧ (j + 1 = i → v.category = 1) := by
  unfold am_kl at h
  split at h
  · exact ⟨h, fun q => by omega⟩
  · rename_i k
    have key : ∀ h : (L.set k none)[j]? = some (some v), L[j]? = some (some v) ∧ (j + 1 = k + 1 → v.category = 1) := by
      intro h
      by_cases hk : k = j
      · subst hk
        rw [List.getElem?_set] at h
        split at h
        · split at h <;> cases h
        · rename_i hh; exact absurd rfl hh
      · rw [List.getElem?_set_ne hk] at h
        exact ⟨h, fun q => by omega⟩
    split at h
    · exact key h
    · exact key h
    · rename_i h1 h2
      refine ⟨h, fun q => ?_⟩
      have hj : j = k := by omega
      subst hj
      cases v with
      | long x => exact absurd h (h1 x)
      | double x => exact absurd h (h2 x)
      | _ => rfl
theorem s1_at {L : Lo} {i j : Nat} {v w : Value} (h : (am_s1 L i v)[j]? = some (some w)) : (j = i ∧ w = v) ∨ (j ≠ i ∧ L[j]? = some (some w) ∧ (j + 1 = i → w.category = 1)) := by
  unfold am_s1 at h
  by_cases hj : i = j
  · subst hj
    rw [List.getElem?_set] at h
    simp only [if_true] at h
    split at h
    · cases h; exact Or.inl ⟨rfl, rfl⟩
    · cases h
  · rw [List.getElem?_set_ne hj] at h
    exact Or.inr ⟨fun q => hj q.symm, kl_at h⟩
theorem s2_at {L : Lo} {i j : Nat} {v w : Value} (h : (am_s2 L i v)[j]? = some (some w)) : (j = i ∧ w = v) ∨ (j ≠ i ∧ j ≠ i + 1 ∧ L[j]? = some (some w) ∧ (j + 1 = i → w.category = 1)) := by
  unfold am_s2 at h
  by_cases hk : i + 1 = j
  · subst hk
    rw [List.getElem?_set] at h
    simp only [if_true] at h
    split at h <;> cases h
  · rw [List.getElem?_set_ne hk] at h
    rcases s1_at h with h | ⟨h1, h2⟩
    · exact Or.inl h
    · exact Or.inr ⟨h1, fun q => hk q.symm, h2⟩
theorem s1_len (L : Lo) (i : Nat) (v : Value) : (am_s1 L i v).length = L.length := by
  unfold am_s1
  rw [List.length_set, kl_len]
theorem s2_len (L : Lo) (i : Nat) (v : Value) : (am_s2 L i v).length = L.length := by
  unfold am_s2
  rw [List.length_set, List.length_set, kl_len]
theorem era_at : ∀ {bs : List Bool} {L : Lo} {j : Nat} {v : Value}, (am_era bs L)[j]? = some (some v) → L[j]? = some (some v) := by
  intro bs
  induction bs with
  | nil => intro L j v h; exact h
  | cons b bs ih =>
    intro L j v h
    cases L with
    | nil => exact h
    | cons x l =>
      cases b with
      | true =>
        cases j with
        | zero => cases h
        | succ j => exact ih (L := l) (j := j) h
      | false =>
        cases j with
        | zero => exact h
        | succ j => exact ih (L := l) (j := j) h
theorem era_len : ∀ {bs : List Bool} {L : Lo}, (am_era bs L).length = L.length := by
  intro bs
  induction bs with
  | nil => intro L; rfl
  | cons b bs ih =>
    intro L
    cases L with
    | nil => rfl
    | cons x l =>
      cases b with
      | true => exact congrArg (· + 1) (ih (L := l))
      | false => exact congrArg (· + 1) (ih (L := l))
theorem dead_at {dd : List (Nat × List Bool)} {pc : Nat} {L : Lo} {j : Nat} {v : Value} (h : (am_dead dd pc L)[j]? = some (some v)) : L[j]? = some (some v) := by
  induction dd with
  | nil => exact h
  | cons q l ih =>
    unfold am_dead at h
    split at h
    · exact era_at h
    · exact ih h
theorem dead_len {dd : List (Nat × List Bool)} {pc : Nat} {L : Lo} : (am_dead dd pc L).length = L.length := by
  induction dd with
  | nil => rfl
  | cons q l ih =>
    unfold am_dead
    split
    · exact era_len
    · exact ih
theorem lvR.dead {ad : Nat → Nat} {L : Lo} {ls : Array Slot} {n pc : Nat} {dd : List (Nat × List Bool)} (h : lvR ad L ls n) : lvR ad (am_dead dd pc L) ls n := ⟨dead_len.trans h.1, h.2.1, h.2.2.1, fun i v hv => h.2.2.2 i v (dead_at hv)⟩
theorem VOK.dead {σ : Sg} {L : Lo} {st : List Value} {pc : Nat} {dd : List (Nat × List Bool)} (h : VOK σ L st) : VOK σ (am_dead dd pc L) st := ⟨h.1, fun i v hv => h.2 i v (dead_at hv)⟩
