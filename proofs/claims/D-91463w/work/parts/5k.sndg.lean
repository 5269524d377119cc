/-! SOUNDNESS 17: what the pure machine does, the machine does -/
set_option maxRecDepth 100000
theorem G_len {mid : Nat} {M : Mi} (h : am_G mid = some M) : (am_cd M).length ≤ 3000 := by
  have hg : (GT.all fun l => l.all fun M => Nat.ble (am_cd M).length 3000) = true := by decide +kernel
  unfold am_G at h
  split at h
  · rename_i l hl
    have h1 := List.all_eq_true.mp hg l (List.mem_of_getElem? hl)
    have h2 := List.all_eq_true.mp h1 M (List.mem_of_getElem? h)
    exact Nat.le_of_ble_eq_true h2
  · cases h
theorem look_mem : ∀ {l : List (Nat × Instr × Nat)} {pc : Nat} {q : Instr × Nat}, am_look l pc = some q → (pc, q) ∈ l := by
  intro l
  induction l with
  | nil => intro pc q h; cases h
  | cons a l ih =>
    intro pc q h
    unfold am_look at h
    split at h
    · rename_i hb
      cases h
      have e : a.1 = pc := Nat.eq_of_beq_eq_true hb
      rw [← e]
      exact List.mem_cons_self
    · exact List.mem_cons_of_mem _ (ih h)
theorem fetch_q {o mid : Nat} {M : Mi} {q : Mq} {pc len : Nat} {ins : Instr} (hK : MK o M q) (h : am_fetch M pc = some (ins, len)) : decode q.2.1 pc = .ok (ins, len) ∧ am_wfq o q.2.2.1 (pc, ins, len) = true := by
  unfold am_fetch at h
  split at h
  · rename_i l hl
    have hm := look_mem h
    have hl1 := List.mem_of_getElem? hl
    have h1 := List.all_eq_true.mp (List.all_eq_true.mp hK.2.1 l hl1) _ hm
    have h2 := List.all_eq_true.mp (List.all_eq_true.mp hK.2.2.1 l hl1) _ hm
    refine ⟨?_, h2⟩
    unfold am_chk at h1
    split at h1
    · rename_i x hx
      have h3 := of_decide_eq_true h1
      dsimp only at h3 hx
      rw [h3] at hx
      exact hx
    · cases h1
  · cases h
theorem fetch_end {mid : Nat} {M : Mi} (h : am_G mid = some M) : am_fetch M 99999 = none := by
  have h1 := G_len h
  unfold am_fetch
  rw [List.getElem?_eq_none (by omega)]
theorem ex_stuck {n : Nat} {md : Bool} {d : Nat} {M : Mi} {pc : Nat} {L : Lo} {st : List Value} {σ : Sg} (h : am_fetch M pc = none) : am_ex n md d M (pc, L, st, σ) = none := by
  cases n with
  | zero => rfl
  | succ n =>
    unfold am_ex
    have : am_stp md M (pc, L, st, σ) = none := by
      unfold am_stp
      dsimp only
      rw [h]
    rw [this]
theorem cl_le {σ τ : Sg} (h : gz σ ≤ gz τ ∧ gs σ ≤ gs τ) : cl σ ≤ cl τ := Nat.add_le_add h.1 (Nat.div_le_div_right h.2)
theorem xt_le (o : Ou × Sg) : cl o.2 ≤ cl (xt o) ∧ gs o.2 ≤ gs (xt o) := by
  unfold xt
  split
  · exact ⟨Nat.le_refl _, Nat.le_refl _⟩
  · split
    · exact ⟨Nat.le_refl _, Nat.le_refl _⟩
    · rw [cl_bmp, gs_bmp]
      exact ⟨Nat.le_add_right _ _, Nat.le_add_right _ _⟩
theorem ext.tr {ad0 ad ad1 : Nat → Nat} {σ0 σ : Sg} (h : ext ad0 ad σ0) (hz : gz σ0 ≤ gz σ) (h1 : ext ad ad1 σ) : ext ad0 ad1 σ0 := fun b hb => (h1 b (hb.up hz)).trans (h b hb)
theorem GL_dead {p : Program} {l : Launch} {e : Env} {R : Room} {s : State} {m : MethodId} {args : Array Value} {below : List Frame} {meth : Method} {c : Code} {D : va_G} {dA : Nat → Nat} {md : Bool} {A : Nat → Prop} {nL cells slots : Nat} {Q : State → Prop} {ad : Nat → Nat} {pc pc1 : Nat} {L : Lo} {st : List Value} {σ : Sg} {dd : List (Nat × List Bool)} (k : GL p l e R s m args below meth c D dA md A nL cells slots Q ad pc (am_dead dd pc1 L) st σ) : GL p l e R s m args below meth c D dA md A nL cells slots Q ad pc L st σ := fun H locs ls hW hL hV => k H locs ls hW hL.dead hV.dead
theorem XL_dead {p : Program} {l : Launch} {e : Env} {R : Room} {s : State} {m : MethodId} {args : Array Value} {below : List Frame} {meth : Method} {c : Code} {D : va_G} {dA : Nat → Nat} {md : Bool} {A : Nat → Prop} {nL cells slots : Nat} {Q : State → Prop} {ad : Nat → Nat} {pc pc1 : Nat} {L : Lo} {st : List Value} {ec x : Nat} {σ : Sg} {dd : List (Nat × List Bool)} (k : XL p l e R s m args below meth c D dA md A nL cells slots Q ad pc (am_dead dd pc1 L) st ec x σ) : XL p l e R s m args below meth c D dA md A nL cells slots Q ad pc L st ec x σ := fun H locs ls ce q9 hW hL hV => k H locs ls ce q9 hW hL.dead hV.dead
/-- the world after the charge for a throw -/
theorem GL_bmp {p : Program} {l : Launch} {e : Env} {R : Room} {s : State} {m : MethodId} {args : Array Value} {below : List Frame} {meth : Method} {c : Code} {D : va_G} {dA : Nat → Nat} {md : Bool} {A : Nat → Prop} {nL cells slots : Nat} {Q : State → Prop} {ad : Nat → Nat} {pc : Nat} {L : Lo} {st : List Value} {σ : Sg} (k : GL p l e R s m args below meth c D dA md A nL cells slots Q ad pc L st (bmp σ)) : GL p l e R s m args below meth c D dA md A nL cells slots Q ad pc L st σ := by
  intro H locs ls hW hL hV
  have hW1 : WO D dA md A s ad (bmp σ) H locs := ⟨hW.1, hW.2.1, hW.2.2.1, hW.2.2.2.1, hW.2.2.2.2.1, hW.2.2.2.2.2.1, hW.2.2.2.2.2.2.1, Nat.zero_le _, hW.2.2.2.2.2.2.2.2⟩
  have hV1 : VOK (bmp σ) L st := hV
  exact k H locs ls hW1 hL hV1
/-- what holds of a method's frame at one place of its run -/
def SND (md : Bool) (d : Nat) (M : Mi) (q : Mq) (fr : Fr) (o : Ou × Sg) : Prop := (gz fr.2.2.2 ≤ gz o.2 ∧ gs fr.2.2.2 ≤ gs o.2) ∧ ∀ (l : Launch) (D : va_G) (dA : Nat → Nat) (z0 : Nat) (σ0 : Sg) (ad0 ad : Nat → Nat) (p : Program) (e : Env) (s : State) (m : MethodId) (args : Array Value) (below : List Frame) (meth : Method) (c : Code), l.stackTraces = false → EV p s m args meth c q D dA z0 (SXc z0) ad0 → ext ad0 ad σ0 → gz σ0 ≤ gz fr.2.2.2 → gs σ0 ≤ gs fr.2.2.2 →
  GL p l e (rmD d σ0 o) s m args below meth c D dA md (AA z0) q.2.2.1 (cl fr.2.2.2 - cl σ0) (gs fr.2.2.2 - gs σ0) (vx_MQ below (Qret D dA md z0 ad0 σ0 o) (Xthr D dA md z0 ad0 σ0 o) args s (cl (xt o) - cl σ0) (gs (xt o) - gs σ0) (AA z0)) ad fr.1 fr.2.1 fr.2.2.1 fr.2.2.2
theorem EV.SB {p : Program} {s : State} {m : MethodId} {args : Array Value} {meth : Method} {c : Code} {q : Mq} {D : va_G} {dA : Nat → Nat} {z0 : Nat} {ad0 ad : Nat → Nat} {σ0 : Sg} (h : EV p s m args meth c q D dA z0 (SXc z0) ad0) (he : ext ad0 ad σ0) : SB D dA z0 (SXc z0) ad s := by
  have h1 := h.2.2.2.2.2.2.2.2.2
  exact ⟨h1.1, h1.2.1, h1.2.2.1, (SXc_SXP z0).2.2 ad0 ad s (fun b hb => he b (Or.inr hb)) h1.2.2.2⟩
/-- a throw, caught in the frame or not -/
theorem snd_cat {n : Nat} {md : Bool} {d mid : Nat} {M : Mi} {q : Mq} {pc ec a : Nat} {L : Lo} {σ : Sg} {o : Ou × Sg} (hG : am_G mid = some M) (hK : MK (mid / 256) M q) (ih : ∀ (fr : Fr), am_ex n md d M fr = some o → SND md d M q fr o)
    (h : (match am_cat M pc ec a L σ with | some f => am_ex n md d M f | none => some (.inr (ec, a), σ)) = some o) : (gz σ ≤ gz o.2 ∧ gs σ ≤ gs o.2) ∧ (cl (xt (.inr (ec, a), σ)) ≤ cl (xt o) ∧ gs (xt (.inr (ec, a), σ)) ≤ gs (xt o)) ∧ ∀ (l : Launch) (D : va_G) (dA : Nat → Nat) (z0 : Nat) (σ0 : Sg) (ad0 ad : Nat → Nat) (p : Program) (e : Env) (s : State) (m : MethodId) (args : Array Value) (below : List Frame) (meth : Method) (c : Code) (st : List Value), l.stackTraces = false → EV p s m args meth c q D dA z0 (SXc z0) ad0 → ext ad0 ad σ0 → gz σ0 ≤ gz σ → gs σ0 ≤ gs σ →
    XL p l e (rmD d σ0 o) s m args below meth c D dA md (AA z0) q.2.2.1 (cl (xt (.inr (ec, a), σ)) - cl σ0) (gs (xt (.inr (ec, a), σ)) - gs σ0) (vx_MQ below (Qret D dA md z0 ad0 σ0 o) (Xthr D dA md z0 ad0 σ0 o) args s (cl (xt o) - cl σ0) (gs (xt o) - gs σ0) (AA z0)) ad pc L st ec a σ := by
  have hHH := hK.2.2.2.2.2.2.2.2.2.2
  cases hc : am_cat M pc ec a L σ with
  | none =>
    rw [hc] at h
    dsimp only at h
    cases h
    have hh : am_hnd (am_hh M) pc ec = none := by
      unfold am_cat at hc
      split at hc
      · assumption
      · split at hc
        · cases hc
        · split at hc <;> cases hc
    refine ⟨⟨Nat.le_refl _, Nat.le_refl _⟩, ⟨Nat.le_refl _, Nat.le_refl _⟩, ?_⟩
    intro l D dA z0 σ0 ad0 ad p e s m args below meth c st hl hE he hz hs
    exact sn_out (catch_none (am_hh M) _ (by rw [show c.exceptionTable.toList.map ent4 = q.2.2.2.2 from hE.2.2.2.2.2.2.2.2.1]; exact hHH) hh) hE.2.2.2.2.2.2.1 he (Nat.le_refl _) (Nat.le_refl _)
  | some f =>
    rw [hc] at h
    dsimp only at h
    unfold am_cat at hc
    split at hc
    · cases hc
    · rename_i t hh
      have ht : t ≠ 99999 := by
        intro e
        subst e
        have hf := fetch_end hG
        split at hc
        · cases hc
          rw [ex_stuck hf] at h
          cases h
        · rw [hf] at hc
          dsimp only at hc
          cases hc
          rw [ex_stuck hf] at h
          cases h
      split at hc
      · rename_i hec
        cases hc
        obtain ⟨hm, hk⟩ := ih _ h
        have hx : xt ((.inr (ec, a), σ) : Ou × Sg) = σ := if_pos hec
        rw [hx]
        refine ⟨hm, ⟨Nat.le_trans (cl_le hm) (xt_le o).1, Nat.le_trans hm.2 (xt_le o).2⟩, ?_⟩
        intro l D dA z0 σ0 ad0 ad p e s m args below meth c st hl hE he hz hs
        obtain ⟨pre, z, suf, g1, g2, g3, g4, g5, g6, g7⟩ := catch_some ht (am_hh M) c.exceptionTable.toList (by rw [show c.exceptionTable.toList.map ent4 = q.2.2.2.2 from hE.2.2.2.2.2.2.2.2.1]; exact hHH) hh
        subst g4
        exact sn_caught hE.2.2.2.2.2.1 pre z suf g1 g2 g3 g5 (hE.2.2.2.2.1 _ g6) (atW (args := args) hE.2.2.2.2.1 (hE.SB he).2.2.1 (Or.inr ⟨g7, rfl⟩)) hec (hk l D dA z0 σ0 ad0 ad p e s m args below meth c hl hE he hz hs)
      · rename_i hec
        have hx : xt ((.inr (ec, a), σ) : Ou × Sg) = bmp σ := if_neg hec
        rw [hx]
        have key : ∀ (nn ln : Nat) (ins : Instr), am_fetch M t = some (ins, ln) → ((∃ k : Fin 4, ins = .astore_n k ∧ (k : Nat) = nn ∧ ln = 1) ∨ (ins = .astore nn ∧ ln = 2)) → f = (t + ln, (am_kl (am_dead (am_dd M) t L) nn).set nn none, [], bmp σ) → (gz σ ≤ gz o.2 ∧ gs σ ≤ gs o.2) ∧ (cl (bmp σ) ≤ cl (xt o) ∧ gs (bmp σ) ≤ gs (xt o)) ∧ ∀ (l : Launch) (D : va_G) (dA : Nat → Nat) (z0 : Nat) (σ0 : Sg) (ad0 ad : Nat → Nat) (p : Program) (e : Env) (s : State) (m : MethodId) (args : Array Value) (below : List Frame) (meth : Method) (c : Code) (st : List Value), l.stackTraces = false → EV p s m args meth c q D dA z0 (SXc z0) ad0 → ext ad0 ad σ0 → gz σ0 ≤ gz σ → gs σ0 ≤ gs σ →
            XL p l e (rmD d σ0 o) s m args below meth c D dA md (AA z0) q.2.2.1 (cl (bmp σ) - cl σ0) (gs (bmp σ) - gs σ0) (vx_MQ below (Qret D dA md z0 ad0 σ0 o) (Xthr D dA md z0 ad0 σ0 o) args s (cl (xt o) - cl σ0) (gs (xt o) - gs σ0) (AA z0)) ad pc L st ec a σ := by
          intro nn ln ins hft hins hf
          subst hf
          obtain ⟨hm, hk⟩ := ih _ h
          have hm1 : gz (bmp σ) ≤ gz o.2 ∧ gs (bmp σ) ≤ gs o.2 := hm
          refine ⟨⟨hm1.1, Nat.le_trans (Nat.le_add_right _ _) hm1.2⟩, ⟨Nat.le_trans (cl_le hm1) (xt_le o).1, Nat.le_trans hm1.2 (xt_le o).2⟩, ?_⟩
          intro l D dA z0 σ0 ad0 ad p e s m args below meth c st hl hE he hz hs
          obtain ⟨pre, z, suf, g1, g2, g3, g4, g5, g6, g7⟩ := catch_some ht (am_hh M) c.exceptionTable.toList (by rw [show c.exceptionTable.toList.map ent4 = q.2.2.2.2 from hE.2.2.2.2.2.2.2.2.1]; exact hHH) hh
          subst g4
          obtain ⟨hd, hwf⟩ := fetch_q (mid := mid) hK hft
          have hn : nn < q.2.2.1 := by
            have h2 := (wf_i hwf).2
            rcases hins with ⟨k4, rfl, rfl, rfl⟩ | ⟨rfl, rfl⟩
            · exact of_decide_eq_true h2
            · exact of_decide_eq_true h2
          have hk1 := hk l D dA z0 σ0 ad0 ad p e s m args below meth c hl hE he hz (Nat.le_trans hs (Nat.le_add_right _ _))
          exact XL_dead (sn_caughtV hE.1 hE.2.1 hE.2.2.2.2.2.1 pre z suf g1 g2 g3 g5 (hE.2.2.2.2.1 _ g6) (atW (args := args) hE.2.2.2.2.1 (hE.SB he).2.2.1 (Or.inr ⟨g7, rfl⟩)) (n := nn) (ln := ln) (by
            rcases hins with ⟨k4, rfl, rfl, rfl⟩ | ⟨rfl, rfl⟩
            · exact Or.inl ⟨k4, hd, rfl, rfl⟩
            · exact Or.inr ⟨hd, rfl⟩) hn (GL_bmp hk1))
        split at hc
        · rename_i nn hft
          cases hc
          exact key _ 1 _ hft (Or.inl ⟨nn, rfl, rfl, rfl⟩) rfl
        · rename_i nn hft
          cases hc
          exact key _ 2 _ hft (Or.inr ⟨rfl, rfl⟩) rfl
        · cases hc
          rw [ex_stuck (fetch_end hG)] at h
          cases h
theorem XL_x {p : Program} {l : Launch} {e : Env} {R : Room} {s : State} {m : MethodId} {args : Array Value} {below : List Frame} {meth : Method} {c : Code} {D : va_G} {dA : Nat → Nat} {md : Bool} {A : Nat → Prop} {nL cells slots : Nat} {Q : State → Prop} {ad : Nat → Nat} {pc : Nat} {L : Lo} {st : List Value} {ec x y : Nat} {σ : Sg} (h : 2 < ec) (k : XL p l e R s m args below meth c D dA md A nL cells slots Q ad pc L st ec x σ) : XL p l e R s m args below meth c D dA md A nL cells slots Q ad pc L st ec y σ := fun H locs ls ce q9 hW hL hV _ => k H locs ls ce q9 hW hL hV (fun q => absurd q (by omega))
/-- what the kit's builtins do: a step of the frame -/
def BIP : Prop := ∀ (md : Bool) (M : Mi) (ins : Instr) (pc : Nat) (L : Lo) (st : List Value) (σ : Sg) (mid : Nat) (as : List Value) (pc1 : Nat) (st1 : List Value) (v : Option Value) (σ1 : Sg), CALQ md M ins pc st σ mid as pc1 st1 → 20000 ≤ mid → am_bi md mid as σ = some (v, σ1) → (gz σ ≤ gz σ1 ∧ gs σ ≤ gs σ1) ∧ ∀ (p : Program) (l : Launch) (e : Env) (R : Room) (s : State) (m : MethodId) (args : Array Value) (below : List Frame) (meth : Method) (c : Code) (D : va_G) (dA : Nat → Nat) (z0 nL : Nat) (Q : State → Prop) (ad : Nat → Nat) (cc : ByteArray) (c0 s0 : Nat),
  p.tables.exec = Jvm.exec → c.code = cc → c.maxLocals = nL → (∀ w ∈ lw_all, w.before args s = true) → s.vm.findClass (ownS (am_ow M)) = some m.cls → ROWN.contains (am_ow M) = true → am_wf2 (am_ow M) nL pc ins = true → SB D dA z0 (SXc z0) ad s → 20 ≤ R.frames → 10500 ≤ R.locals → decode cc pc = .ok (ins, ilen ins) → c0 ≤ cl σ → s0 ≤ gs σ → cl σ1 - c0 ≤ R.cells → gs σ1 - s0 ≤ R.slots → (∀ ad1, ext ad ad1 σ → GL p l e R s m args below meth c D dA md (AA z0) nL (cl σ1 - c0) (gs σ1 - s0) Q ad1 pc1 L (am_pv v st1) σ1) → GL p l e R s m args below meth c D dA md (AA z0) nL (cl σ - c0) (gs σ - s0) Q ad pc L st σ
theorem am_lk_mem {α : Type} : ∀ {l : List (Nat × α)} {i : Nat} {v : α}, am_lk l i = some v → (i, v) ∈ l := by
  intro l
  induction l with
  | nil => intro i v h; cases h
  | cons a l ih =>
    intro i v h
    unfold am_lk at h
    split at h
    · rename_i hb
      cases h
      have e : a.1 = i := Nat.eq_of_beq_eq_true hb
      rw [← e]
      exact List.mem_cons_self
    · exact List.mem_cons_of_mem _ (ih h)
theorem lkM_ne {o i : Nat} {r : Nat × Nat × List (Nat × Nat)} (h : am_tb lkM o i = some r) : r.2.2 ≠ [] := by
  have hg : (lkM.all fun l => l.all fun x => !x.2.2.2.isEmpty) = true := by decide +kernel
  unfold am_tb at h
  split at h
  · rename_i l hl
    have h1 := List.all_eq_true.mp (List.all_eq_true.mp hg l (List.mem_of_getElem? hl)) _ (am_lk_mem h)
    intro e
    rw [e] at h1
    cases h1
  · cases h
theorem own_al {o : Nat} (h : ROWN.contains o = true) (e : ownS o = "java/util/ArrayList") : o = 11 := by
  have hg : ∀ x ∈ ROWN, ownS x = "java/util/ArrayList" → x = 11 := by decide +kernel
  exact hg o (List.elem_iff.mp h) e
theorem ilen_st {i : Nat} : ilen (.invokestatic i) = 3 := rfl
/-- a call's row -/
theorem call_row {md : Bool} {o mid : Nat} {M : Mi} {q : Mq} {ins : Instr} {pc nL pc1 : Nat} {st as st1 : List Value} {σ : Sg} (hK : MK o M q) (hq : CALQ md M ins pc st σ mid as pc1 st1) (hm : ¬ 20000 ≤ mid) (hwf : am_wf2 o nL pc ins = true) : ∃ q1 n, MX mid q1 ∧ n ≤ st.length ∧ st1 = st.drop n ∧ as = (st.take n).reverse ∧ am_wd st1 ≤ 8 ∧ ((∃ i, ins = .invokestatic i ∧ pc1 = pc + 3 ∧ CALLS q.1.cls i n q1) ∨ (∃ i b t, ins = .invokespecial i ∧ pc1 = pc + 3 ∧ as = .ref b :: t ∧ CALLI q.1.cls i (n - 1) q1) ∨ (∃ i b t, ins = .invokevirtual i ∧ pc1 = pc + 3 ∧ as = .ref b :: t ∧ CALLV q.1.cls i (n - 1) (kdT md σ b).1 q1) ∨ (∃ b cnt, ins = .invokeinterface 42 cnt ∧ pc1 = pc + 5 ∧ as = [.ref b] ∧ q.1.cls = "java/util/ArrayList" ∧ (kdT md σ b).1 = 16 ∧ q1 = mq2819)) := by
  obtain ⟨i, n, vk, ds, hl, h1, h2, h3, h4, h5, h6⟩ := hq
  have how := hK.2.2.2.1
  rw [how] at hl
  have hM := lkM_ok hl hK.1
  have hne := lkM_ne hl
  rw [hK.2.2.2.2.1] at hM
  dsimp only at hM hne
  have hhd : ds.headD (0, 0) ∈ ds := by
    cases ds with
    | nil => exact absurd rfl hne
    | cons a t => exact List.mem_cons_self
  have hwv : ∀ (f : Nat → List (Nat × Nat) → Bool), am_vk (am_tb lkM o i) f = true → f vk ds = true := by
    intro f hf
    rw [hl] at hf
    exact hf
  rcases h6 with ⟨rfl, hp⟩ | ⟨rfl, hp⟩ | ⟨rfl, hp⟩ | ⟨cnt, rfl, hp⟩
  · unfold am_wf2 at hwf
    dsimp only at hwf
    have hv : vk = 0 := eq_of_beq (Bool.and_eq_true_iff.mp (hwv _ hwf)).1
    subst hv
    rcases h5 with ⟨-, e⟩ | ⟨e, -⟩ | ⟨e, -⟩
    · obtain ⟨q1, g1, g2⟩ := hM _ hhd (by omega)
      rw [← e] at g1
      exact ⟨q1, n, g1, h1, h2, h3, h4, Or.inl ⟨i, rfl, hp, g2⟩⟩
    · cases e
    · exact absurd rfl e
  · unfold am_wf2 at hwf
    dsimp only at hwf
    have hv : (vk = 1 ∧ (o = 11 → (i == 42) = false)) ∨ (vk = 2 ∧ 20000 ≤ (ds.headD (0, 0)).2) := by
      rcases Bool.or_eq_true_iff.mp (hwv _ hwf) with h | h
      · have h1 := Bool.and_eq_true_iff.mp h
        refine Or.inl ⟨eq_of_beq h1.1, fun e => ?_⟩
        have h2 := (Bool.and_eq_true_iff.mp h1.2).1
        rw [e] at h2
        cases hi : (i == 42) with
        | false => rfl
        | true => rw [hi] at h2; cases h2
      · have h1 := Bool.and_eq_true_iff.mp h
        refine Or.inr ⟨eq_of_beq h1.1, ?_⟩
        rcases Bool.or_eq_true_iff.mp h1.2 with h | h
        · have := eq_of_beq h; omega
        rcases Bool.or_eq_true_iff.mp h with h | h
        · have := eq_of_beq h; omega
        rcases Bool.or_eq_true_iff.mp h with h | h
        · have := eq_of_beq h; omega
        · have := eq_of_beq h; omega
    rcases h5 with ⟨e, -⟩ | ⟨e, e2, -⟩ | ⟨e0, e2, b, t, e3, e4⟩
    · omega
    · exfalso
      rcases hv with ⟨h, -⟩ | ⟨-, h⟩
      · omega
      · omega
    · have hm1 : ((kdT md σ b).1, mid) ∈ ds := am_lk_mem e4
      have hv1 : vk = 1 := by omega
      subst hv1
      obtain ⟨q1, g1, g2⟩ := hM _ hm1 (by show mid < 20000; omega)
      refine ⟨q1, n, g1, h1, h2, h3, h4, Or.inr (Or.inr (Or.inl ⟨i, b, t, rfl, hp, e3, ?_⟩))⟩
      rcases g2 with g2 | ⟨g2, g3⟩
      · exact g2
      · exfalso
        have ho := own_al hK.1 (hK.2.2.2.2.1.trans g2)
        rcases hv with ⟨-, h⟩ | ⟨h, -⟩
        · have := h ho
          rw [g3] at this
          exact absurd this (by decide)
        · cases h
  · unfold am_wf2 at hwf
    dsimp only at hwf
    have hv : vk = 2 := eq_of_beq (Bool.and_eq_true_iff.mp (hwv _ hwf)).1
    subst hv
    rcases h5 with ⟨e, -⟩ | ⟨-, e, b, t, e3⟩ | ⟨-, e, -⟩
    · cases e
    · obtain ⟨q1, g1, g2⟩ := hM _ hhd (by omega)
      rw [← e] at g1
      exact ⟨q1, n, g1, h1, h2, h3, h4, Or.inr (Or.inl ⟨i, b, t, rfl, hp, e3, g2⟩)⟩
    · exact absurd rfl e
  · unfold am_wf2 at hwf
    dsimp only at hwf
    have hv := hwv _ hwf
    simp only [Bool.and_eq_true, beq_iff_eq] at hv
    obtain ⟨hv1, ho, hi⟩ := hv
    subst hv1 ho hi
    have hr : am_tb lkM 11 42 = some (1, 1, [(16, 2819)]) := rfl
    rw [hr] at hl
    cases hl
    rcases h5 with ⟨e, -⟩ | ⟨e, -⟩ | ⟨-, -, b, t, e3, e4⟩
    · cases e
    · cases e
    · have hm1 : ((kdT md σ b).1, mid) ∈ [(16, 2819)] := am_lk_mem e4
      have hm2 : ((kdT md σ b).1, mid) = (16, 2819) := List.mem_singleton.mp hm1
      have k1 : (kdT md σ b).1 = 16 := congrArg Prod.fst hm2
      have k2 : mid = 2819 := congrArg Prod.snd hm2
      subst k2
      refine ⟨mq2819, 1, mk2819, h1, h2, h3, h4, Or.inr (Or.inr (Or.inr ⟨b, cnt, rfl, hp, ?_, hK.2.2.2.2.1.symm, k1, rfl⟩))⟩
      have hlen : as.length = 1 := by rw [h3, List.length_reverse, List.length_take]; omega
      rw [e3] at hlen ⊢
      have : t = [] := List.eq_nil_of_length_eq_zero (by simpa using hlen)
      rw [this]
theorem rev_take {st as : List Value} {n : Nat} (h : as = (st.take n).reverse) : st.take n = as.reverse := by rw [h, List.reverse_reverse]
theorem st_split {st as st1 : List Value} {n : Nat} (h : as = (st.take n).reverse) (h1 : st1 = st.drop n) : st = as.reverse ++ st1 := by
  rw [← rev_take h, h1, List.take_append_drop]
theorem as_len {st as : List Value} {n : Nat} (h1 : n ≤ st.length) (h : as = (st.take n).reverse) : as.length = n := by
  rw [h, List.length_reverse, List.length_take]
  omega
theorem snd_main (hB : BIP) : ∀ (n : Nat) (md : Bool) (d : Nat) (M : Mi) (fr : Fr) (o : Ou × Sg) (mid : Nat) (q : Mq), am_G mid = some M → MK (mid / 256) M q → am_ex n md d M fr = some o → SND md d M q fr o := by
  intro n
  induction n with
  | zero => intro md d M fr o mid q hG hK h; cases h
  | succ n ih =>
    intro md d M fr o mid q hG hK h
    obtain ⟨pc, L, st, σ⟩ := fr
    unfold am_ex at h
    cases hst : am_stp md M (pc, L, st, σ) with
    | none => rw [hst] at h; cases h
    | some r =>
      rw [hst] at h
      unfold am_stp at hst
      dsimp only at hst
      split at hst
      · cases hst
      · rename_i ins len hf
        obtain ⟨hd, hwf⟩ := fetch_q (mid := mid) hK hf
        have hown : ∀ {s : State} {m : MethodId}, s.vm.findClass q.1.cls = some m.cls → s.vm.findClass (ownS (am_ow M)) = some m.cls := fun h => by rw [hK.2.2.2.1, hK.2.2.2.2.1]; exact h
        rcases r with f | ⟨v | ⟨ec, a⟩, τ⟩ | ⟨mid1, as, pc1, L1, st1, τ⟩
        · dsimp only at h
          obtain ⟨hm, hk⟩ := ih md d M f o mid q hG hK h
          have hm0 := ins_mono hst
          refine ⟨⟨Nat.le_trans hm0.1 hm.1, Nat.le_trans hm0.2 hm.2⟩, ?_⟩
          intro l D dA z0 σ0 ad0 ad p e s m args below meth c hl hE he hz hs
          have hSB := hE.SB he
          have hx := xt_le o
          refine GL_dead (pc1 := pc) (dd := am_dd M) ?_
          exact sn_ins (M := M) (ins := ins) (len := len) (f := f) (c0 := cl σ0) (s0 := gs σ0) hE.1 hE.2.1 hSB.2.1 CL_ok CAO_ok hE.2.2.2.2.1 hSB.2.2.1 (hown hE.2.2.2.2.2.1) hSB.1 hSB.2.2.2.1 (fun h => hE.2.2.2.2.2.2.2.1.trans (hK.2.2.2.2.2.2.1 h)) (by rw [hK.2.2.2.1]; exact hwf) hd (cl_le ⟨hz, hs⟩) hs (Nat.sub_le_sub_right (Nat.le_trans (cl_le hm) hx.1) _) (Nat.sub_le_sub_right (Nat.le_trans hm.2 hx.2) _) hst (fun ad1 h1 => hk l D dA z0 σ0 ad0 ad1 p e s m args below meth c hl hE (he.tr hz h1) (Nat.le_trans hz hm0.1) (Nat.le_trans hs hm0.2))
        · dsimp only at h
          obtain ⟨e1, hq⟩ := ins_ret hst
          have e1 := e1.symm
          subst e1
          cases h
          refine ⟨⟨Nat.le_refl _, Nat.le_refl _⟩, ?_⟩
          intro l D dA z0 σ0 ad0 ad p e s m args below meth c hl hE he hz hs
          have hlen : len = ilen ins := (wf_i hwf).1 (by
            rcases hq with ⟨rfl, -⟩ | ⟨rfl, -⟩ | ⟨rfl, -⟩ | ⟨rfl, -⟩ | ⟨rfl, -⟩ <;> rfl)
          subst hlen
          refine GL_dead (pc1 := pc) (dd := am_dd M) ?_
          exact sn_ret hE.1 hE.2.1 hE.2.2.2.1 hK.2.2.2.2.2.2.2.1 hE.2.2.2.2.2.2.1 hd hq he
        · dsimp only at h
          obtain ⟨e1, hq⟩ := ins_thr hst
          have e1 := e1.symm
          subst e1
          obtain ⟨hm, hx, hk⟩ := snd_cat hG hK (fun f hf => ih md d M f o mid q hG hK hf) h
          refine ⟨hm, ?_⟩
          intro l D dA z0 σ0 ad0 ad p e s m args below meth c hl hE he hz hs
          have hSB := hE.SB he
          have hc0 := cl_le (σ := σ0) (τ := σ) ⟨hz, hs⟩
          have hs0 : gs σ0 ≤ gs σ := hs
          refine GL_dead (pc1 := pc) (dd := am_dd M) ?_
          rcases hq with ⟨rfl, ⟨r, rfl⟩, hk2⟩ | ⟨rfl, rfl, i, b, r, rfl, h3, hi, hw, hn⟩ | ⟨i, rfl, rfl, b, r, cs, rfl, hl9, hcs, h17, hw⟩
          · have hec : ec ≤ 2 := by omega
            have k1 := hk l D dA z0 σ0 ad0 ad p e s m args below meth c r hl hE he hz hs
            rw [show xt ((.inr (ec, a), σ) : Ou × Sg) = σ from if_pos hec] at k1
            have hlen : len = 1 := (wf_i hwf).1 rfl
            subst hlen
            exact sn_athrow hE.1 hE.2.1 hSB.2.1 hd hk2 k1
          · have k1 := hk l D dA z0 σ0 ad0 ad p e s m args below meth c r hl hE he hz hs
            rw [show xt ((.inr (3, a), σ) : Ou × Sg) = bmp σ from rfl] at k1 hx
            have e1 : cl (bmp σ) - cl σ0 = cl σ - cl σ0 + 3 := by rw [cl_bmp]; omega
            have e2 : gs (bmp σ) - gs σ0 = gs σ - gs σ0 + 3000 := by rw [gs_bmp]; omega
            have r1 := Nat.sub_le_sub_right hx.1 (cl σ0)
            have r2 := Nat.sub_le_sub_right hx.2 (gs σ0)
            rw [e1] at k1 r1
            rw [e2] at k1 r2
            have hlen : len = 1 := (wf_i hwf).1 rfl
            subst hlen
            exact sn_baldx hE.1 hE.2.1 hl hSB.2.1 hE.2.2.2.2.1 hSB.2.2.1 hSB.2.2.2 hE.2.2.2.2.2.2.1 hE.2.2.1 hd h3 hi hn hw (Nat.le_add_left _ _) (Nat.le_add_left _ _) r1 r2 (XL_x (by omega) k1)
          · have k1 := hk l D dA z0 σ0 ad0 ad p e s m args below meth c (.ref b :: r) hl hE he hz hs
            rw [show xt ((.inr (4, a), σ) : Ou × Sg) = bmp σ from rfl] at k1 hx
            have e1 : cl (bmp σ) - cl σ0 = cl σ - cl σ0 + 3 := by rw [cl_bmp]; omega
            have e2 : gs (bmp σ) - gs σ0 = gs σ - gs σ0 + 3000 := by rw [gs_bmp]; omega
            have r1 := Nat.sub_le_sub_right hx.1 (cl σ0)
            have r2 := Nat.sub_le_sub_right hx.2 (gs σ0)
            rw [e1] at k1 r1
            rw [e2] at k1 r2
            have hlen : len = 3 := (wf_i hwf).1 rfl
            subst hlen
            exact sn_castx hE.1 hE.2.1 hl hSB.2.1 hE.2.2.2.2.1 hSB.2.2.1 hSB.2.2.2 (hown hE.2.2.2.2.2.1) (lkC_x hl9 rfl) hE.2.2.2.2.2.2.1 hE.2.2.1 hd h17 hcs hw (Nat.le_add_left _ _) (Nat.le_add_left _ _) r1 r2 (XL_x (by omega) k1)
        · dsimp only at h
          obtain ⟨e1, rfl, hq⟩ := ins_call hst
          have e1 := e1.symm
          subst e1
          have hlen : len = ilen ins := (wf_i hwf).1 (by
            obtain ⟨i, -, -, -, -, -, -, -, -, -, hq⟩ := hq
            rcases hq with ⟨rfl, -⟩ | ⟨rfl, -⟩ | ⟨rfl, -⟩ | ⟨_, rfl, -⟩ <;> rfl)
          subst hlen
          by_cases hmid : 20000 ≤ mid1
          · rw [if_pos hmid] at h
            split at h
            · rename_i v σ1 hbi
              obtain ⟨hm, hk⟩ := ih md d M _ o mid q hG hK h
              obtain ⟨hb1, hb2⟩ := hB _ _ _ _ (am_dead (am_dd M) pc L) _ _ _ _ _ _ _ _ hq hmid hbi
              have hm9 : gz σ1 ≤ gz o.2 ∧ gs σ1 ≤ gs o.2 := hm
              refine ⟨⟨Nat.le_trans hb1.1 hm9.1, Nat.le_trans hb1.2 hm9.2⟩, ?_⟩
              intro l D dA z0 σ0 ad0 ad p e s m args below meth c hl hE he hz hs
              have hSB := hE.SB he
              have hx := xt_le o
              refine GL_dead (pc1 := pc) (dd := am_dd M) ?_
              exact hb2 p l e (rmD d σ0 o) s m args below meth c D dA z0 q.2.2.1 _ ad q.2.1 (cl σ0) (gs σ0) hE.1 hE.2.1 hE.2.2.1 hE.2.2.2.2.1 (hown hE.2.2.2.2.2.1) (by rw [hK.2.2.2.1]; exact hK.1) (by rw [hK.2.2.2.1]; exact (wf_i hwf).2) hSB (Nat.le_add_left _ _) (Nat.le_add_left _ _) hd (cl_le ⟨hz, hs⟩) hs (Nat.sub_le_sub_right (Nat.le_trans (cl_le hm9) hx.1) _) (Nat.sub_le_sub_right (Nat.le_trans hm9.2 hx.2) _) (fun ad1 h1 => hk l D dA z0 σ0 ad0 ad1 p e s m args below meth c hl hE (he.tr hz h1) (Nat.le_trans hz hb1.1) (Nat.le_trans hs hb1.2))
            · cases h
          · rw [if_neg hmid] at h
            cases d with
            | zero => cases h
            | succ d =>
              dsimp only at h
              split at h
              · cases h
              · rename_i M1 hM1
                obtain ⟨hG1, hent⟩ := am_G1_i hM1
                obtain ⟨q1, k, ⟨M1', hG1', hK1⟩, hn, hst1, has, hwd, hcall⟩ := call_row hK hq hmid (wf_i hwf).2
                cases hG1.symm.trans hG1'
                have hsp := st_split has hst1
                have hal := as_len hn has
                cases hc : am_ex n md d M1 (0, am_pad (am_nl M1) (am_ent as), [], σ) with
                | none => rw [hc] at h; cases h
                | some o1 =>
                  rw [hc] at h
                  obtain ⟨hmc, hkc⟩ := ih md d M1 _ o1 mid1 q1 hG1 hK1 hc
                  have hmc9 : gz σ ≤ gz o1.2 ∧ gs σ ≤ gs o1.2 := hmc
                  have hx1 := xt_le o1
                  have hnl : am_nl M1 = q1.2.2.1 := hK1.2.2.2.2.2.1
                  have hCT : ∀ (l : Launch) (D : va_G) (dA : Nat → Nat) (z0 : Nat), l.stackTraces = false → CT l D dA md z0 (SXc z0) (d + 20) (64 * d + 10500) q1 as σ o1 := by
                    intro l D dA z0 hl
                    refine CT_of hK1 (by rw [← hnl]; exact hent) ?_
                    intro ad p e s m below meth c hE
                    have k2 := hkc l D dA z0 σ ad ad p e s m _ below meth c hl hE ext.rf (Nat.le_refl _) (Nat.le_refl _)
                    dsimp only at k2
                    rw [Nat.sub_self, Nat.sub_self, hnl] at k2
                    exact k2
                  -- what goes on behind the call
                  have hgo : (gz o1.2 ≤ gz o.2 ∧ gs o1.2 ≤ gs o.2) ∧ (cl (xt o1) ≤ cl (xt o) ∧ gs (xt o1) ≤ gs (xt o)) ∧ ∀ (l : Launch) (D : va_G) (dA : Nat → Nat) (z0 : Nat) (σ0 : Sg) (ad0 ad : Nat → Nat) (p : Program) (e : Env) (s : State) (m : MethodId) (args : Array Value) (below : List Frame) (meth : Method) (c : Code), l.stackTraces = false → EV p s m args meth c q D dA z0 (SXc z0) ad0 → ext ad0 ad σ0 → gz σ0 ≤ gz σ → gs σ0 ≤ gs σ →
                      (∀ (ec x : Nat) (ad1 : Nat → Nat), o1.1 = .inr (ec, x) → ext ad ad1 σ → XL p l e (rmD (d + 1) σ0 o) s m args below meth c D dA md (AA z0) q.2.2.1 (cl σ - cl σ0 + (cl (xt o1) - cl σ)) (gs σ - gs σ0 + (gs (xt o1) - gs σ)) (vx_MQ below (Qret D dA md z0 ad0 σ0 o) (Xthr D dA md z0 ad0 σ0 o) args s (cl (xt o) - cl σ0) (gs (xt o) - gs σ0) (AA z0)) ad1 pc (am_dead (am_dd M) pc L) st1 ec x o1.2) ∧
                      (∀ (v : Option Value) (ad1 : Nat → Nat), o1.1 = .inl v → ext ad ad1 σ → GL p l e (rmD (d + 1) σ0 o) s m args below meth c D dA md (AA z0) q.2.2.1 (cl σ - cl σ0 + (cl (xt o1) - cl σ)) (gs σ - gs σ0 + (gs (xt o1) - gs σ)) (vx_MQ below (Qret D dA md z0 ad0 σ0 o) (Xthr D dA md z0 ad0 σ0 o) args s (cl (xt o) - cl σ0) (gs (xt o) - gs σ0) (AA z0)) ad1 pc1 (am_dead (am_dd M) pc L) (am_pv v st1) o1.2) := by
                    have hcc : ∀ σ0 : Sg, gz σ0 ≤ gz σ → gs σ0 ≤ gs σ → cl σ - cl σ0 + (cl (xt o1) - cl σ) = cl (xt o1) - cl σ0 ∧ gs σ - gs σ0 + (gs (xt o1) - gs σ) = gs (xt o1) - gs σ0 := by
                      intro σ0 hz hs
                      have a1 := cl_le (σ := σ0) (τ := σ) ⟨hz, hs⟩
                      have a2 := Nat.le_trans (cl_le hmc9) hx1.1
                      have a3 := Nat.le_trans hmc9.2 hx1.2
                      constructor <;> omega
                    obtain ⟨ov, σ1⟩ := o1
                    cases ov with
                    | inl v =>
                      dsimp only at h
                      obtain ⟨hm, hk⟩ := ih md (d + 1) M _ o mid q hG hK h
                      have hx := xt_le o
                      refine ⟨hm, ⟨Nat.le_trans (cl_le hm) hx.1, Nat.le_trans hm.2 hx.2⟩, ?_⟩
                      intro l D dA z0 σ0 ad0 ad p e s m args below meth c hl hE he hz hs
                      refine ⟨fun ec x ad1 h1 => (nomatch h1), fun v1 ad1 h1 h2 => ?_⟩
                      cases h1
                      rw [(hcc σ0 hz hs).1, (hcc σ0 hz hs).2]
                      exact hk l D dA z0 σ0 ad0 ad1 p e s m args below meth c hl hE (he.tr hz h2) (Nat.le_trans hz hmc9.1) (Nat.le_trans hs hmc9.2)
                    | inr z =>
                      obtain ⟨ec, a⟩ := z
                      dsimp only at h
                      obtain ⟨hm, hx, hk⟩ := snd_cat hG hK (fun f hf => ih md (d + 1) M f o mid q hG hK hf) h
                      refine ⟨hm, hx, ?_⟩
                      intro l D dA z0 σ0 ad0 ad p e s m args below meth c hl hE he hz hs
                      refine ⟨fun ec1 x ad1 h1 h2 => ?_, fun v1 ad1 h1 => (nomatch h1)⟩
                      cases h1
                      rw [(hcc σ0 hz hs).1, (hcc σ0 hz hs).2]
                      exact hk l D dA z0 σ0 ad0 ad1 p e s m args below meth c st1 hl hE (he.tr hz h2) (Nat.le_trans hz hmc9.1) (Nat.le_trans hs hmc9.2)
                  obtain ⟨hg1, hg2, hg3⟩ := hgo
                  refine ⟨⟨Nat.le_trans hmc9.1 hg1.1, Nat.le_trans hmc9.2 hg1.2⟩, ?_⟩
                  intro l D dA z0 σ0 ad0 ad p e s m args below meth c hl hE he hz hs
                  have hSB := hE.SB he
                  have hCTl := hCT l D dA z0 hl
                  obtain ⟨kx, kk⟩ := hg3 l D dA z0 σ0 ad0 ad p e s m args below meth c hl hE he hz hs
                  have hRf : d + 20 + 1 ≤ (rmD (d + 1) σ0 o).frames := by show d + 20 + 1 ≤ d + 1 + 20; omega
                  have hRl : 64 * d + 10500 + 64 ≤ (rmD (d + 1) σ0 o).locals := by show 64 * d + 10500 + 64 ≤ 64 * (d + 1) + 10500; omega
                  have a1 := cl_le (σ := σ0) (τ := σ) ⟨hz, hs⟩
                  have a4 : gs σ0 ≤ gs σ := hs
                  have a2 := Nat.le_trans (cl_le hmc9) hx1.1
                  have a3 := Nat.le_trans hmc9.2 hx1.2
                  have hRc : cl σ - cl σ0 + (cl (xt o1) - cl σ) ≤ (rmD (d + 1) σ0 o).cells := by show _ ≤ cl (xt o) - cl σ0; omega
                  have hRs : gs σ - gs σ0 + (gs (xt o1) - gs σ) ≤ (rmD (d + 1) σ0 o).slots := by show _ ≤ gs (xt o) - gs σ0; omega
                  refine GL_dead (pc1 := pc) (dd := am_dd M) ?_
                  show GL p l e (rmD (d + 1) σ0 o) s m args below meth c D dA md (AA z0) q.2.2.1 (cl σ - cl σ0) (gs σ - gs σ0) _ ad pc (am_dead (am_dd M) pc L) st σ
                  rcases hcall with ⟨i, rfl, rfl, hr⟩ | ⟨i, b, t, rfl, rfl, rfl, hr⟩ | ⟨i, b, t, rfl, rfl, rfl, hr⟩ | ⟨b, cnt, rfl, rfl, rfl, hal2, hkb, rfl⟩
                  · rw [hsp]
                    exact sn_callS hE.1 hE.2.1 hE.2.2.1 hE.2.2.2.2.1 hSB.2.2.1 hE.2.2.2.2.2.1 (SXc_SXP z0) hSB hr hal hCTl hmc9.1 hwd hd hRf hRl hRc hRs kx kk
                  · rw [hsp, List.reverse_cons, List.append_assoc]
                    exact sn_callI hE.1 hE.2.1 hE.2.2.1 hE.2.2.2.2.1 hSB.2.2.1 hE.2.2.2.2.2.1 (SXc_SXP z0) hSB hr (by rw [← hal]; rfl) hCTl hmc9.1 hwd hd hRf hRl hRc hRs kx kk
                  · rw [hsp, List.reverse_cons, List.append_assoc]
                    exact sn_callV hE.1 hE.2.1 hE.2.2.1 hE.2.2.2.2.1 hSB.2.2.1 hE.2.2.2.2.2.1 (SXc_SXP z0) hSB hr rfl (by rw [← hal]; rfl) hCTl hmc9.1 hwd hd hRf hRl hRc hRs kx kk
                  · rw [hsp]
                    exact sn_callF hE.1 hE.2.1 hE.2.2.1 hE.2.2.2.2.1 hSB.2.2.1 (by rw [← hal2]; exact hE.2.2.2.2.2.1) hSB hkb hCTl hmc9.1 hwd hd hRf hRl hRc hRs kx kk
