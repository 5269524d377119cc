/-! SOUNDNESS 8: what one instruction of the pure machine may end in -/
set_option maxRecDepth 100000
theorem new_mono {σ σ1 : Sg} {q : Nat × Nat} {n : Nat} (h : am_new σ q n = some σ1) : gz σ ≤ gz σ1 ∧ gs σ ≤ gs σ1 := by
  obtain ⟨-, -, rfl⟩ := am_new_i h
  exact ⟨Nat.le_succ _, Nat.le_add_right _ _⟩
theorem ins_mono {md : Bool} {M : Mi} {ins : Instr} {len pc : Nat} {L : Lo} {st : List Value} {σ : Sg} {f : Fr} (h : am_ins md M ins len pc L st σ = some (.inl f)) : gz σ ≤ gz f.2.2.2 ∧ gs σ ≤ gs f.2.2.2 := by
  unfold am_ins at h
  split at h
  all_goals try unfold am_get at h
  all_goals try unfold am_put at h
  iterate 7 all_goals first
    | (cases h; done)
    | exact absurd h calln
    | (unfold am_ret at h; cases h; done)
    | (have e := nxi h; subst e; first | exact ⟨Nat.le_refl _, Nat.le_refl _⟩ | exact new_mono (by assumption))
    | split at h
    | skip
/-- a return -/
def RETQ (M : Mi) (ins : Instr) (st : List Value) (v : Option Value) : Prop := (ins = .return_ ∧ v = none ∧ am_rk M = 0) ∨ (ins = .ireturn ∧ ∃ x, st = [.int x] ∧ v = some (.int x) ∧ (am_rk M = 1 ∨ ((am_rk M = 2 ∧ am_ok 3 x = true) ∨ (am_rk M = 7 ∧ am_ok 4 x = true) ∨ (am_rk M = 6 ∧ am_ok 5 x = true)))) ∨ (ins = .lreturn ∧ ∃ x, st = [.long x] ∧ v = some (.long x) ∧ am_rk M = 3) ∨ (ins = .freturn ∧ ∃ x, st = [.float x] ∧ v = some (.float x) ∧ am_rk M = 4) ∨ (ins = .areturn ∧ ∃ w, st = [w] ∧ v = some w ∧ (w = .null ∨ ∃ a, w = .ref a) ∧ am_rk M = 5)
theorem retn {M : Mi} {v w : Option Value} {σ τ : Sg} (h : am_ret M v σ = some (.inr (.inl (.inl w, τ)))) : w = v ∧ τ = σ := by
  unfold am_ret at h
  cases h
  exact ⟨rfl, rfl⟩
theorem nxr {pc : Nat} {L : Lo} {st : List Value} {σ : Sg} {f : (Ou × Sg) ⊕ (Nat × List Value × Nat × Lo × List Value × Sg)} : ¬ am_nx pc L st σ = some (.inr f) := by
  intro h
  unfold am_nx at h
  cases h
theorem callr {md : Bool} {M : Mi} {idx len pc : Nat} {L : Lo} {st : List Value} {σ : Sg} {f : Ou × Sg} : ¬ am_call md M idx len pc L st σ = some (.inr (.inl f)) := by
  intro h
  unfold am_call at h
  split at h
  · cases h
  · split at h
    · split at h
      · cases h
      · split at h <;> cases h
      · split at h
        · split at h <;> cases h
        · cases h
    · cases h
theorem ins_ret {md : Bool} {M : Mi} {ins : Instr} {len pc : Nat} {L : Lo} {st : List Value} {σ τ : Sg} {v : Option Value} (h : am_ins md M ins len pc L st σ = some (.inr (.inl (.inl v, τ)))) : τ = σ ∧ RETQ M ins st v := by
  unfold am_ins at h
  split at h
  all_goals try unfold am_get at h
  all_goals try unfold am_put at h
  iterate 7 all_goals first
    | (cases h; done)
    | exact absurd h nxr
    | exact absurd h callr
    | (obtain ⟨rfl, rfl⟩ := retn h; rename_i hc; first | exact ⟨rfl, Or.inl ⟨rfl, rfl, hc⟩⟩ | exact ⟨rfl, Or.inr (Or.inl ⟨rfl, _, rfl, rfl, hc⟩)⟩ | exact ⟨rfl, Or.inr (Or.inr (Or.inl ⟨rfl, _, rfl, rfl, hc⟩))⟩ | exact ⟨rfl, Or.inr (Or.inr (Or.inr (Or.inl ⟨rfl, _, rfl, rfl, hc⟩)))⟩ | exact ⟨rfl, Or.inr (Or.inr (Or.inr (Or.inr ⟨rfl, _, rfl, rfl, Or.inr ⟨_, rfl⟩, hc⟩)))⟩ | exact ⟨rfl, Or.inr (Or.inr (Or.inr (Or.inr ⟨rfl, _, rfl, rfl, Or.inl rfl, hc⟩)))⟩)
    | split at h
    | skip
theorem retx {M : Mi} {v : Option Value} {σ τ : Sg} {q : Nat × Nat} : ¬ am_ret M v σ = some (.inr (.inl (.inr q, τ))) := by
  intro h
  unfold am_ret at h
  cases h
/-- a throw -/
def THRQ (md : Bool) (M : Mi) (ins : Instr) (st : List Value) (σ : Sg) (ec a : Nat) : Prop := (ins = .athrow ∧ (∃ r, st = .ref a :: r) ∧ ((kdT md σ a).1 = 24 ∧ ec = 1 ∨ (kdT md σ a).1 = 25 ∧ ec = 2)) ∨ (ins = .baload ∧ ec = 3 ∧ ∃ i b r, st = .int i :: .ref b :: r ∧ (kdT md σ b).1 = 3 ∧ ¬ inb i (kdT md σ b).2 ∧ am_wd r ≤ 8 ∧ (kdT md σ b).2 ≤ 1000000) ∨ (∃ i, ins = .checkcast i ∧ ec = 4 ∧ ∃ b r cs, st = .ref b :: r ∧ am_tb lkC (am_ow M) i = some (cs, true) ∧ ¬ cs.elem (kdT md σ b).1 = true ∧ (17 ≤ (kdT md σ b).1 ∧ (kdT md σ b).1 ≤ 21) ∧ am_wd r ≤ 8)
theorem ins_thr {md : Bool} {M : Mi} {ins : Instr} {len pc : Nat} {L : Lo} {st : List Value} {σ τ : Sg} {ec a : Nat} (h : am_ins md M ins len pc L st σ = some (.inr (.inl (.inr (ec, a), τ)))) : τ = σ ∧ THRQ md M ins st σ ec a := by
  unfold am_ins at h
  split at h
  all_goals try unfold am_get at h
  all_goals try unfold am_put at h
  iterate 7 all_goals first
    | exact absurd h nxr
    | exact absurd h callr
    | exact absurd h retx
    | (cases h; rename_i hk; first | exact ⟨rfl, Or.inl ⟨rfl, ⟨_, rfl⟩, Or.inl ⟨hk, rfl⟩⟩⟩ | exact ⟨rfl, Or.inl ⟨rfl, ⟨_, rfl⟩, Or.inr ⟨hk, rfl⟩⟩⟩)
    | (cases h; rename_i h1 h2 h3; exact ⟨rfl, Or.inr (Or.inl ⟨rfl, rfl, _, _, _, rfl, h3.2.1, h2, h3.2.2⟩)⟩)
    | (cases h; rename_i h1 h2 h3; exact ⟨rfl, Or.inr (Or.inr ⟨_, rfl, rfl, _, _, _, rfl, by rw [h3.1] at h1; exact h1, h2, h3.2⟩)⟩)
    | (cases h; done)
    | split at h
    | skip
/-- a call -/
def CALQ (md : Bool) (M : Mi) (ins : Instr) (pc : Nat) (st : List Value) (σ : Sg) (mid : Nat) (args : List Value) (pc1 : Nat) (st1 : List Value) : Prop := ∃ i n vk ds, am_tb lkM (am_ow M) i = some (n, vk, ds) ∧ n ≤ st.length ∧ st1 = st.drop n ∧ args = (st.take n).reverse ∧ am_wd st1 ≤ 8 ∧ ((vk = 0 ∧ mid = (ds.headD (0, 0)).2) ∨ (vk = 2 ∧ mid = (ds.headD (0, 0)).2 ∧ ∃ b t, args = .ref b :: t) ∨ (vk ≠ 0 ∧ vk ≠ 2 ∧ ∃ b t, args = .ref b :: t ∧ am_dis ds (kdT md σ b).1 = some mid)) ∧ ((ins = .invokestatic i ∧ pc1 = pc + 3) ∨ (ins = .invokevirtual i ∧ pc1 = pc + 3) ∨ (ins = .invokespecial i ∧ pc1 = pc + 3) ∨ (∃ k, ins = .invokeinterface i k ∧ pc1 = pc + 5))
theorem call_q {md : Bool} {M : Mi} {idx len pc : Nat} {L L1 : Lo} {st st1 : List Value} {σ τ : Sg} {mid pc1 : Nat} {args : List Value} (h : am_call md M idx len pc L st σ = some (.inr (.inr (mid, args, pc1, L1, st1, τ)))) : τ = σ ∧ L1 = L ∧ pc1 = pc + len ∧ ∃ n vk ds, am_tb lkM (am_ow M) idx = some (n, vk, ds) ∧ n ≤ st.length ∧ st1 = st.drop n ∧ args = (st.take n).reverse ∧ am_wd st1 ≤ 8 ∧ ((vk = 0 ∧ mid = (ds.headD (0, 0)).2) ∨ (vk = 2 ∧ mid = (ds.headD (0, 0)).2 ∧ ∃ b t, args = .ref b :: t) ∨ (vk ≠ 0 ∧ vk ≠ 2 ∧ ∃ b t, args = .ref b :: t ∧ am_dis ds (kdT md σ b).1 = some mid)) := by
  unfold am_call at h
  split at h
  · cases h
  · rename_i n vk ds hv
    split at h
    · rename_i hc
      split at h
      · cases h
        exact ⟨rfl, rfl, rfl, n, _, ds, hv, hc.1, rfl, rfl, hc.2, Or.inl ⟨rfl, rfl⟩⟩
      · split at h
        · rename_i b t hb
          cases h
          exact ⟨rfl, rfl, rfl, n, _, ds, hv, hc.1, rfl, rfl, hc.2, Or.inr (Or.inl ⟨rfl, rfl, b, t, hb⟩)⟩
        · cases h
      · rename_i h0 h2
        split at h
        · rename_i b t hb
          split at h
          · rename_i mid2 hm
            cases h
            exact ⟨rfl, rfl, rfl, n, _, ds, hv, hc.1, rfl, rfl, hc.2, Or.inr (Or.inr ⟨h0, h2, b, t, hb, hm⟩)⟩
          · cases h
        · cases h
    · cases h
theorem retc {M : Mi} {v : Option Value} {σ : Sg} {q : Nat × List Value × Nat × Lo × List Value × Sg} : ¬ am_ret M v σ = some (.inr (.inr q)) := by
  intro h
  unfold am_ret at h
  cases h
theorem ins_call {md : Bool} {M : Mi} {ins : Instr} {len pc : Nat} {L L1 : Lo} {st st1 : List Value} {σ τ : Sg} {mid pc1 : Nat} {args : List Value} (h : am_ins md M ins len pc L st σ = some (.inr (.inr (mid, args, pc1, L1, st1, τ)))) : τ = σ ∧ L1 = L ∧ CALQ md M ins pc st σ mid args pc1 st1 := by
  unfold am_ins at h
  split at h
  all_goals try unfold am_get at h
  all_goals try unfold am_put at h
  iterate 7 all_goals first
    | (cases h; done)
    | exact absurd h nxr
    | exact absurd h retc
    | (obtain ⟨h1, h2, h3, n, vk, ds, h4, h5, h6, h7, h8, h9⟩ := call_q h; first | exact ⟨h1, h2, _, n, vk, ds, h4, h5, h6, h7, h8, h9, Or.inl ⟨rfl, h3⟩⟩ | exact ⟨h1, h2, _, n, vk, ds, h4, h5, h6, h7, h8, h9, Or.inr (Or.inl ⟨rfl, h3⟩)⟩ | exact ⟨h1, h2, _, n, vk, ds, h4, h5, h6, h7, h8, h9, Or.inr (Or.inr (Or.inl ⟨rfl, h3⟩))⟩ | exact ⟨h1, h2, _, n, vk, ds, h4, h5, h6, h7, h8, h9, Or.inr (Or.inr (Or.inr ⟨_, rfl, h3⟩))⟩)
    | split at h
    | skip
