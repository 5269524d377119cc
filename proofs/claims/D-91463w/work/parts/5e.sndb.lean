/-! SOUNDNESS 11: from a method's entry to what it owes -/
set_option maxRecDepth 100000
theorem vx_ofF {l : Launch} {y : MethodName} {ws ws' : List Cond} {rm : Room} {Pc : Array Value → State → Prop} {Qc : Array Value → State → Outcome → State → Prop} {XC : String → Addr → State → State → Prop} {mc ms : Nat} {free : Addr → Prop} {cc : ByteArray} {maxL : Nat} {ret : Option FieldType}
    (hy : plainFor y = true) (hw : ws = Cond.code y cc maxL ret :: ws')
    (body : ∀ p e s m args below meth c s₁, BodyLoose p l y (headSpec ws rm) cc maxL ret e s m args below meth c s₁ → c.maxLocals = maxL → c.exceptionTable.toList.map (fun h => (h.startPc, h.endPc, h.handlerPc, h.catchType)) = [] → Pc args s →
      W p l e (headSpec ws rm).room s m args below meth c s.heap [] 0 0 (vx_MQ below Qc XC args s mc ms free) (entryFrame m args maxL)) : vx_Met l y ws rm Pc Qc XC mc ms free := by
  refine MetFree.of_bodySF (code := cc) (maxLocals := maxL) (ret := ret) hy ?_ ?_
  · intro args s m h hn
    obtain ⟨meth, c, h1, h2, h3, h4, h5, h6, -, -⟩ := Cond.code_spec hn (atoms_spec (ws := ws) h _ (by rw [hw]; exact List.mem_cons_self))
    exact ⟨meth, c, h1, h2, h3, h4, h5, h6⟩
  · intro p e s m args below meth c s₁ B hml hP _
    have hh0 : s₁.heap = s.heap := by rw [B.state]; rfl
    have ht : c.exceptionTable.toList.map (fun h => (h.startPc, h.endPc, h.handlerPc, h.catchType)) = [] := by
      obtain ⟨meth9, c9, h1, h2, -, -, -, -, h7, -⟩ := Cond.code_spec B.named (atoms_spec (ws := ws) B.pre _ (by rw [hw]; exact List.mem_cons_self))
      cases Option.some.inj (h1.symm.trans B.method)
      cases Option.some.inj (h2.symm.trans (Stand.of_body B).code)
      rw [Array.isEmpty_iff.mp h7]
      rfl
    obtain ⟨t, a1, o, b1, b2, b3⟩ := body p e s m args below meth c s₁ B hml ht hP s₁ hh0 (Stand.of_body B)
    exact ⟨t, o, a1, b1, b2, b3⟩
theorem vx_ofFH {l : Launch} {y : MethodName} {ws ws' : List Cond} {rm : Room} {Pc : Array Value → State → Prop} {Qc : Array Value → State → Outcome → State → Prop} {XC : String → Addr → State → State → Prop} {mc ms : Nat} {free : Addr → Prop} {cc : ByteArray} {maxL : Nat} {ret : Option FieldType} {hh : List (Nat × Nat × Nat × Nat)}
    (hy : plainFor y = true) (hw : ws = Cond.codeWith y cc maxL ret hh :: ws')
    (body : ∀ p e s m args below meth c s₁, BodyLoose p l y (headSpec ws rm) cc maxL ret e s m args below meth c s₁ → c.maxLocals = maxL → c.exceptionTable.toList.map (fun h => (h.startPc, h.endPc, h.handlerPc, h.catchType)) = hh → Pc args s →
      W p l e (headSpec ws rm).room s m args below meth c s.heap [] 0 0 (vx_MQ below Qc XC args s mc ms free) (entryFrame m args maxL)) : vx_Met l y ws rm Pc Qc XC mc ms free := by
  refine MetFree.of_bodySF (code := cc) (maxLocals := maxL) (ret := ret) hy ?_ ?_
  · intro args s m h hn
    obtain ⟨m9, meth, c, hn9, h1, h2, h3, h4, -, h5, h6, -⟩ := Cond.codeWith_spec (atoms_spec (ws := ws) h _ (by rw [hw]; exact List.mem_cons_self))
    cases hn.symm.trans hn9
    exact ⟨meth, c, h1, h2, h3, h4, h5, h6⟩
  · intro p e s m args below meth c s₁ B hml hP _
    have hh0 : s₁.heap = s.heap := by rw [B.state]; rfl
    have ht : c.exceptionTable.toList.map (fun h => (h.startPc, h.endPc, h.handlerPc, h.catchType)) = hh := by
      obtain ⟨m9, meth9, c9, hn9, h1, h2, -, -, h7, -⟩ := Cond.codeWith_spec (atoms_spec (ws := ws) B.pre _ (by rw [hw]; exact List.mem_cons_self))
      cases B.named.symm.trans hn9
      cases Option.some.inj (h1.symm.trans B.method)
      cases Option.some.inj (h2.symm.trans (Stand.of_body B).code)
      exact h7
    obtain ⟨t, a1, o, b1, b2, b3⟩ := body p e s m args below meth c s₁ B hml ht hP s₁ hh0 (Stand.of_body B)
    exact ⟨t, o, a1, b1, b2, b3⟩
/-- what is known where a method runs -/
def EV (p : Program) (s : State) (m : MethodId) (args : Array Value) (meth : Method) (c : Code) (q : Mq) (D : va_G) (dA : Nat → Nat) (z0 : Nat) (SX : (Nat → Nat) → State → Heap → Prop) (ad : Nat → Nat) : Prop := p.tables.exec = Jvm.exec ∧ c.code = q.2.1 ∧ c.maxLocals = q.2.2.1 ∧ meth.sig.returnType = q.2.2.2.1 ∧ (∀ w ∈ lw_all, w.before args s = true) ∧ s.vm.findClass q.1.cls = some m.cls ∧ meth.locks = false ∧ meth.name = q.1.name ∧ c.exceptionTable.toList.map (fun h => (h.startPc, h.endPc, h.handlerPc, h.catchType)) = q.2.2.2.2 ∧ SB D dA z0 SX ad s
theorem ent_len (ad : Nat → Nat) : ∀ av : List Value, (lg_sl (av.map (mv ad))).length = (am_ent av).length := by
  intro av
  induction av with
  | nil => rfl
  | cons v av ih =>
    have h : lg_sl ((v :: av).map (mv ad)) = (if (mv ad v).category = 2 then [.val (mv ad v), .second] else [.val (mv ad v)]) ++ lg_sl (av.map (mv ad)) := rfl
    rw [h]
    cases v <;> simp [mv, Value.category, am_ent, ih]
theorem ent_mem (ad : Nat → Nat) : ∀ (av : List Value) (k i : Nat) (v : Value), (am_ent av)[i]? = some (some v) → (k + i, mv ad v) ∈ lv_args k (av.map (mv ad)) := by
  intro av
  induction av with
  | nil => intro k i v h; cases i <;> cases h
  | cons w av ih =>
    intro k i v h
    have h1 : (∃ x : Nat, am_ent (w :: av) = some w :: am_ent av ∧ w.category = 1 ∧ x = 0) ∨ (am_ent (w :: av) = some w :: none :: am_ent av ∧ w.category = 2) := by
      cases w <;> first | exact Or.inl ⟨0, rfl, rfl, rfl⟩ | exact Or.inr ⟨rfl, rfl⟩
    rcases h1 with ⟨-, h1, h2, -⟩ | ⟨h1, h2⟩
    · rw [h1] at h
      cases i with
      | zero =>
        cases h
        exact List.mem_cons_self
      | succ i =>
        have h3 := ih (k + 1) i v h
        rw [show k + (i + 1) = k + 1 + i by omega]
        refine List.mem_cons_of_mem _ ?_
        show _ ∈ lv_args (if (mv ad w).category = 2 then k + 2 else k + 1) (av.map (mv ad))
        rw [mv_cat, h2]
        exact h3
    · rw [h1] at h
      cases i with
      | zero =>
        cases h
        exact List.mem_cons_self
      | succ i =>
        cases i with
        | zero => cases h
        | succ i =>
          have h3 := ih (k + 2) i v h
          rw [show k + (i + 1 + 1) = k + 2 + i by omega]
          refine List.mem_cons_of_mem _ ?_
          show _ ∈ lv_args (if (mv ad w).category = 2 then k + 2 else k + 1) (av.map (mv ad))
          rw [mv_cat, h2]
          exact h3
theorem ent_lvR {ad : Nat → Nat} {av : List Value} {n : Nat} (h : (am_ent av).length ≤ n) : lvR ad (am_pad n (am_ent av)) ((lg_sl (av.map (mv ad)) ++ List.replicate (n - (lg_sl (av.map (mv ad))).length) Slot.unset).toArray) n := by
  have h1 := lv_entry (av.map (mv ad)) (n := n) (by rw [ent_len]; exact h)
  refine lvR.of h1 ?_ (fun i v hv => ?_)
  · unfold am_pad
    rw [List.length_append, List.length_replicate]
    omega
  · unfold am_pad at hv
    by_cases hi : i < (am_ent av).length
    · rw [List.getElem?_append_left hi] at hv
      have := ent_mem ad av 0 i v hv
      rw [Nat.zero_add] at this
      exact this
    · rw [List.getElem?_append_right (by omega), List.getElem?_replicate] at hv
      split at hv <;> cases hv
theorem CT_ofP {l : Launch} {D : va_G} {dA : Nat → Nat} {md : Bool} {z0 fr lc : Nat} {SX : (Nat → Nat) → State → Heap → Prop} {q : Mq} {av : List Value} {σ : Sg} {o : Ou × Sg} (hpl : plainFor q.1 = true) (hlen : (am_ent av).length ≤ q.2.2.1)
    (hG : ∀ (ad : Nat → Nat) (p : Program) (e : Env) (s : State) (m : MethodId) (below : List Frame) (meth : Method) (c : Code), EV p s m (av.map (mv ad)).toArray meth c q D dA z0 SX ad → GL p l e (rmF fr lc σ o) s m (av.map (mv ad)).toArray below meth c D dA md (AA z0) q.2.2.1 0 0 (vx_MQ below (Qret D dA md z0 ad σ o) (Xthr D dA md z0 ad σ o) (av.map (mv ad)).toArray s (cl (xt o) - cl σ) (gs (xt o) - gs σ) (AA z0)) ad 0 (am_pad q.2.2.1 (am_ent av)) [] σ) : CT l D dA md z0 SX fr lc q av σ o := by
  intro hvk ad
  have fin : ∀ (p : Program) (e : Env) (s : State) (m : MethodId) (args : Array Value) (below : List Frame) (meth : Method) (c : Code), va_Pc (av.map (mv ad)) (fun U => SB D dA z0 SX ad U ∧ HB D dA md z0 ad σ U.heap) args s → (SB D dA z0 SX ad s → EV p s m args meth c q D dA z0 SX ad) → W p l e (rmF fr lc σ o) s m args below meth c s.heap [] 0 0 (vx_MQ below (Qret D dA md z0 ad σ o) (Xthr D dA md z0 ad σ o) args s (cl (xt o) - cl σ) (gs (xt o) - gs σ) (AA z0)) (entryFrame m args q.2.2.1) := by
    intro p e s m args below meth c hP hE
    obtain ⟨rfl, hSB, hHB⟩ := hP
    rw [lg_entry_eq]
    exact hG ad p e s m below meth c (hE hSB) s.heap [] _ ⟨hHB.1, hHB.2.1, va_S.rf, hHB.2.2⟩ (ent_lvR hlen) ⟨(fun v hv => nomatch hv), fun i v hv => by
      unfold am_pad at hv
      by_cases hi : i < (am_ent av).length
      · rw [List.getElem?_append_left hi] at hv
        have h1 := ent_mem id av 0 i v hv
        have h2 : ∀ (as : List Value) (k : Nat) (z : Nat × Value), z ∈ lv_args k as → z.2 ∈ as := by
          intro as
          induction as with
          | nil => intro k z h; cases h
          | cons w as ih =>
            intro k z h
            rcases List.mem_cons.mp h with e | h
            · rw [e]; exact List.mem_cons_self
            · exact List.mem_cons_of_mem _ (ih _ z h)
        have h3 := h2 _ _ _ h1
        obtain ⟨w, hw, he⟩ := List.mem_map.mp h3
        have hid : ∀ u : Value, mv id u = u := fun u => by cases u <;> rfl
        rw [hid, hid] at he
        subst he
        exact hvk _ hw
      · rw [List.getElem?_append_right (by omega), List.getElem?_replicate] at hv
        split at hv <;> cases hv⟩
  cases hh : q.2.2.2.2 with
  | nil =>
    have hwe : wq q = Cond.code q.1 q.2.1 q.2.2.1 q.2.2.2.1 := by unfold wq; rw [hh]
    refine vx_ofF (cc := q.2.1) (maxL := q.2.2.1) (ret := q.2.2.2.1) hpl (by unfold wsq; rw [hwe]) ?_
    intro p e s m args below meth c s₁ B hml ht hP
    have hts := atoms_spec (ws := wsq q) B.pre
    exact fin p e s m args below meth c hP (fun hSB => ⟨B.exec, B.bytes, hml, B.returns, fun w h => hts w (List.mem_cons_of_mem _ h), findClass_of_methodNamed B.named, B.notSynchronized, (name_of_methodNamed B.named B.method).1, ht.trans hh.symm, hSB⟩)
  | cons x xs =>
    have hwe : wq q = Cond.codeWith q.1 q.2.1 q.2.2.1 q.2.2.2.1 q.2.2.2.2 := by unfold wq; rw [hh]
    refine vx_ofFH (cc := q.2.1) (maxL := q.2.2.1) (ret := q.2.2.2.1) (hh := q.2.2.2.2) hpl (by unfold wsq; rw [hwe]) ?_
    intro p e s m args below meth c s₁ B hml ht hP
    have hts := atoms_spec (ws := wsq q) B.pre
    exact fin p e s m args below meth c hP (fun hSB => ⟨B.exec, B.bytes, hml, B.returns, fun w h => hts w (List.mem_cons_of_mem _ h), findClass_of_methodNamed B.named, B.notSynchronized, (name_of_methodNamed B.named B.method).1, ht, hSB⟩)
theorem CT_of {l : Launch} {D : va_G} {dA : Nat → Nat} {md : Bool} {z0 fr lc o0 : Nat} {SX : (Nat → Nat) → State → Heap → Prop} {q : Mq} {M : Mi} {av : List Value} {σ : Sg} {o : Ou × Sg} (hK : MK o0 M q) (hlen : (am_ent av).length ≤ q.2.2.1)
    (hG : ∀ (ad : Nat → Nat) (p : Program) (e : Env) (s : State) (m : MethodId) (below : List Frame) (meth : Method) (c : Code), EV p s m (av.map (mv ad)).toArray meth c q D dA z0 SX ad → GL p l e (rmF fr lc σ o) s m (av.map (mv ad)).toArray below meth c D dA md (AA z0) q.2.2.1 0 0 (vx_MQ below (Qret D dA md z0 ad σ o) (Xthr D dA md z0 ad σ o) (av.map (mv ad)).toArray s (cl (xt o) - cl σ) (gs (xt o) - gs σ) (AA z0)) ad 0 (am_pad q.2.2.1 (am_ent av)) [] σ) : CT l D dA md z0 SX fr lc q av σ o := CT_ofP hK.2.2.2.2.2.2.2.2.1 hlen hG
