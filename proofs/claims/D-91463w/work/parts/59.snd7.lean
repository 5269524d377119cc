/-! SOUNDNESS 7: calls of methods -/
set_option maxRecDepth 100000
theorem NWs.same {u U : State} (hv : u.vm = U.vm) (h : NWs u) : NWs U := by
  intro w hw hn
  have h1 := h w hw hn
  cases w <;> first | cases hn | skip
  case fieldLinkNest => exact va_Nw.same rfl hv h1
  case methodLinkNest => exact va_Nw.same rfl hv h1
  case castable => exact va_Nw.same rfl hv h1
  case declares => exact va_Nw.same rfl hv h1
  case arrayOver t => cases t <;> first | exact va_AO.moved (u := u) (by rw [hv]; exact Vm.Alike.refl U.vm) h1 | cases hn
/-- what is asked of the rest of the world: it stays -/
def SXP (z0 : Nat) (SX : (Nat → Nat) → State → Heap → Prop) : Prop := (∀ (ad : Nat → Nat) (s U : State), s.WarmedH U.vm → (∀ q : Nat, q < s.heap.size → ¬ AA z0 q → U.heap[q]? = s.heap[q]?) → SX ad s s.heap → SX ad U U.heap) ∧ (∀ (ad : Nat → Nat) (u U : State), u.vm = U.vm → u.heap = U.heap → SX ad u u.heap → SX ad U U.heap) ∧ ∀ (ad ad1 : Nat → Nat) (U : State), (∀ b, 1000000 ≤ b → ad1 b = ad b) → SX ad U U.heap → SX ad1 U U.heap
theorem SB.same {D : va_G} {dA : Nat → Nat} {z0 : Nat} {SX : (Nat → Nat) → State → Heap → Prop} {ad : Nat → Nat} {u U : State} (hp : SXP z0 SX) (hv : u.vm = U.vm) (hh : u.heap = U.heap) (h : SB D dA z0 SX ad u) : SB D dA z0 SX ad U := ⟨by rw [← hh]; exact h.1, va_K.moved (by rw [hv]; exact Vm.Alike.refl U.vm) h.2.1, h.2.2.1.same hv, hp.2.1 ad u U hv hh h.2.2.2⟩
theorem SB.moved {D : va_G} {dA : Nat → Nat} {z0 : Nat} {SX : (Nat → Nat) → State → Heap → Prop} {ad ad1 : Nat → Nat} {σ : Sg} {s U : State} {locs : List Loc} (hp : SXP z0 SX) (hW : s.WarmedH U.vm) (hS : va_S (AA z0) s.heap U.heap locs) (he : ext ad ad1 σ) (h : SB D dA z0 SX ad s) : SB D dA z0 SX ad1 U := ⟨Nat.le_trans h.1 hS.1, va_K.moved hW.alike h.2.1, h.2.2.1.warm hW, hp.2.2 ad ad1 U (fun b hb => he b (Or.inr hb)) (hp.1 ad s U hW hS.2.1 h.2.2.2)⟩
/-- a call's link -/
def ML (own : String) (i : Nat) (y : MethodName) : Prop := Cond.methodLink own i y ∈ lw_all ∨ ∃ host, Cond.methodLinkNest own i y host ∈ lw_tbl
def CALL0 (n : Nat) (q : Mq) : Prop := q.2.2.1 ≤ 45 ∧ Cond.initialized q.1.cls ∈ lw_all ∧ (q.1.cls ≠ "java/lang/invoke/MethodHandle" ∧ q.1.cls ≠ "java/lang/invoke/VarHandle" ∧ (parseMethodDescriptor q.1.desc).map (fun d => d.parameters.length) = some n) ∧ wq q ∈ lw_all
def CALLS (own : String) (i n : Nat) (q : Mq) : Prop := CALL0 n q ∧ Cond.static q.1 ∈ lw_all ∧ q.2.2.2.2 = [] ∧ ML own i q.1
def CALLI (own : String) (i n : Nat) (q : Mq) : Prop := CALL0 n q ∧ q.1.name = "<init>" ∧ Cond.instanceMethod q.1 ∈ lw_all ∧ q.2.2.2.1 = none ∧ q.2.2.2.2 = [] ∧ ML own i q.1
def CALLV (own : String) (i n c : Nat) (q : Mq) : Prop := CALL0 n q ∧ (10 ≤ c ∧ ∃ qc, CL[c - 10]? = some qc ∧ qc.1 = q.1.cls) ∧ Cond.instanceMethod q.1 ∈ lw_all ∧ ((Cond.selects q.1.cls q.1 q.1 ∈ lw_all ∧ (q.2.2.2.2 = [] ∧ ML own i q.1 ∨ Cond.methodLink own i q.1 ∈ lw_all)) ∨ ∃ x : MethodName, q.2.2.2.2 = [] ∧ Cond.methodLink own i x ∈ lw_all ∧ Cond.sameMethod x.cls x.cls x.name x.desc ∈ lw_all ∧ Cond.selects q.1.cls x q.1 ∈ lw_all ∧ Cond.declares ⟨x.cls, x.name, x.desc⟩ ∈ lw_tbl ∧ (x.cls ≠ "java/lang/invoke/MethodHandle" ∧ x.cls ≠ "java/lang/invoke/VarHandle" ∧ (parseMethodDescriptor x.desc).map (fun d => d.parameters.length) = some n))
theorem wd_map (ad : Nat → Nat) : ∀ st : List Value, ((st.map (mv ad)).map fun v => v.category).sum = am_wd st := by
  intro st
  induction st with
  | nil => rfl
  | cons v st ih =>
    show (mv ad v).category + ((st.map (mv ad)).map fun v => v.category).sum = v.category + am_wd st
    rw [ih, mv_cat]
section SNK
variable {p : Program} {l : Launch} {e : Env} {R : Room} {s : State} {m : MethodId} {args : Array Value} {below : List Frame} {meth : Method} {c : Code} {cells slots : Nat} {Q : State → Prop} {cc : ByteArray} {D : va_G} {dA : Nat → Nat} {md : Bool} {z0 : Nat} {nL : Nat} {ad ad0 : Nat → Nat} {pc : Nat} {L : Lo} {r : List Value} {σ σ0 : Sg} {own : String} {i n : Nat} {SX : (Nat → Nat) → State → Heap → Prop} {o : Ou × Sg} {q : Mq} {fr lc ck b : Nat} {As : List Value}
/-- thrown over the frame -/
def XL (p : Program) (l : Launch) (e : Env) (R : Room) (s : State) (m : MethodId) (args : Array Value) (below : List Frame) (meth : Method) (c : Code) (D : va_G) (dA : Nat → Nat) (md : Bool) (A : Nat → Prop) (nL cells slots : Nat) (Q : State → Prop) (ad : Nat → Nat) (pc : Nat) (L : Lo) (st : List Value) (ec x : Nat) (σ : Sg) : Prop :=
  ∀ (H : Heap) (locs : List Loc) (ls : Array Slot) (ce : Cell) (q9 : Addr), WO D dA md A s ad σ H locs → lvR ad L ls nL → VOK σ L st → (ec ≤ 2 → q9 = ad x ∧ x < gz σ) → H[q9]? = some ce → ce.vm = .none → s.vm.findClass (XN ec) = some ce.cls → vx_W p l e R s m args below meth c H locs cells slots Q (F0 m pc ls (st.map (mv ad))) q9
theorem sn_after {H : Heap} {locs : List Loc} {ls : Array Slot} {st0 : List Value} {a : Array Value} {mc ms len : Nat} (hW : WO D dA md (AA z0) s ad σ H locs) (hL : lvR ad L ls nL) (hV : VOK σ L r) (hz : gz σ ≤ gz o.2)
    (hr : RunG p l e R s m args below meth c H locs cells slots mc ms len (F0 m pc ls st0) (r.map (mv ad)) (Qret D dA md z0 ad σ o a) (Xthr D dA md z0 ad σ o) (AA z0))
    (kx : ∀ (ec x : Nat) (ad1 : Nat → Nat), o.1 = .inr (ec, x) → ext ad ad1 σ → XL p l e R s m args below meth c D dA md (AA z0) nL (cells + mc) (slots + ms) Q ad1 pc L r ec x o.2)
    (kk : ∀ (v : Option Value) (ad1 : Nat → Nat), o.1 = .inl v → ext ad ad1 σ → GL p l e R s m args below meth c D dA md (AA z0) nL (cells + mc) (slots + ms) Q ad1 (pc + len) L (am_pv v r) o.2) : W p l e R s m args below meth c H locs cells slots Q (F0 m pc ls st0) := by
  refine sn_back (o := o) (σ := σ) (ad := ad) (D := D) (dA := dA) (md := md) hr hW.2.2.1 (fun ec x ad1 ce q9 H1 locs1 h1 h2 h3 h4 h5 h6 h7 h8 => ?_) (fun v ad1 H1 locs1 h1 h2 h3 h4 h5 => ?_)
  · have hV1 := hV.up hz
    have k1 := kx ec x ad1 h1 h3 H1 locs1 ls ce q9 ⟨h4.1, h4.2.1, h5, h4.2.2⟩ (hL.ext h3 hV.2) hV1 h2 h6 h7 h8
    rw [map_ext h3 hV.1] at k1
    exact k1
  · have hV1 := hV.up hz
    have k1 := kk v ad1 h1 h3 H1 locs1 ls ⟨h4.1, h4.2.1, h5, h4.2.2⟩ (hL.ext h3 hV.2)
    cases v with
    | none =>
      have k2 := k1 hV1
      show W p l e R s m args below meth c H1 locs1 (cells + mc) (slots + ms) Q (F0 m (pc + len) ls (r.map (mv ad)))
      rw [← map_ext h3 hV.1]
      exact k2
    | some w =>
      have k2 := k1 ⟨fqc (h2 w rfl) hV1.1, hV1.2⟩
      show W p l e R s m args below meth c H1 locs1 (cells + mc) (slots + ms) Q (F0 m (pc + len) ls (mv ad1 w :: r.map (mv ad)))
      rw [← map_ext h3 hV.1]
      exact k2
theorem pre_of {H : Heap} {locs : List Loc} (hp : SXP z0 SX) (hSB : SB D dA z0 SX ad s) (hW : WO D dA md (AA z0) s ad σ H locs) (av : List Value) : FrameBlind (va_Pc av (fun U => SB D dA z0 SX ad U ∧ HB D dA md z0 ad σ U.heap)) ∧ ∀ U : State, U.heap = H → s.WarmedH U.vm → va_Pc av (fun U => SB D dA z0 SX ad U ∧ HB D dA md z0 ad σ U.heap) av.toArray U := by
  refine ⟨fun a U g mk h => ⟨h.1, SB.same (u := U) (U := U.calling g mk a) hp rfl rfl h.2.1, h.2.2⟩, fun U hU hw => ?_⟩
  subst hU
  exact ⟨rfl, hSB.moved (σ := σ) hp hw hW.2.2.1 ext.rf, hW.1, hW.2.1, hW.2.2.2⟩
theorem sn_callS (hx : p.tables.exec = Jvm.exec) (hb : c.code = cc) (hml : c.maxLocals = nL) (ht : ∀ w ∈ lw_all, w.before args s = true) (hN : NWs s) (hown : s.vm.findClass own = some m.cls) (hp : SXP z0 SX) (hSB : SB D dA z0 SX ad s) (hc : CALLS own i n q) (hn : As.length = n) (hM : CT l D dA md z0 SX fr lc q As σ o) (hz : gz σ ≤ gz o.2) (hwd : am_wd r ≤ 8) (hd : decode cc pc = .ok (.invokestatic i, 3)) (hRf : fr + 1 ≤ R.frames) (hRl : lc + 64 ≤ R.locals) (hRc : cells + (cl (xt o) - cl σ) ≤ R.cells) (hRs : slots + (gs (xt o) - gs σ) ≤ R.slots)
    (kx : ∀ (ec x : Nat) (ad1 : Nat → Nat), o.1 = .inr (ec, x) → ext ad ad1 σ → XL p l e R s m args below meth c D dA md (AA z0) nL (cells + (cl (xt o) - cl σ)) (slots + (gs (xt o) - gs σ)) Q ad1 pc L r ec x o.2)
    (kk : ∀ (v : Option Value) (ad1 : Nat → Nat), o.1 = .inl v → ext ad ad1 σ → GL p l e R s m args below meth c D dA md (AA z0) nL (cells + (cl (xt o) - cl σ)) (slots + (gs (xt o) - gs σ)) Q ad1 (pc + 3) L (am_pv v r) o.2) : GL p l e R s m args below meth c D dA md (AA z0) nL cells slots Q ad pc L (As.reverse ++ r) σ := by
  intro H locs ls hW hL hV
  have hV1 : VOK σ L r := ⟨fun v hv => hV.1 v (List.mem_append_right _ hv), hV.2⟩
  obtain ⟨⟨h45, hin, hdd, hwq⟩, hst, hhh, hml2⟩ := hc
  have hwe : wq q = Cond.code q.1 q.2.1 q.2.2.1 q.2.2.2.1 := by unfold wq; rw [hhh]
  have hG : GoodIn lw_all (wsq q) := by
    unfold wsq
    rw [hwe]
    exact lw_meth (by rw [← hwe]; exact hwq)
  have hR : (rmF fr lc σ o).frames + 1 ≤ R.frames ∧ 8 + (q.2.2.1 + 11) + (rmF fr lc σ o).locals ≤ R.locals := ⟨hRf, by show 8 + (q.2.2.1 + 11) + lc ≤ _; omega⟩
  have hstk : (F0 m pc ls ((As.reverse ++ r).map (mv ad))).stack = (As.map (mv ad)).reverse ++ r.map (mv ad) := by
    show (As.reverse ++ r).map (mv ad) = _
    rw [List.map_append, List.map_reverse]
  have hwd2 : 2 * (F0 m pc ls ((As.reverse ++ r).map (mv ad))).monitorRoom + ((r.map (mv ad)).map fun v => v.category).sum ≤ 8 := by
    rw [wd_map]
    show 2 * 0 + _ ≤ _
    omega
  have hvk : ∀ v ∈ As, vok σ v := fun v hv => hV.1 v (List.mem_append_left _ (List.mem_reverse.mpr hv))
  have hpp := pre_of hp hSB hW (As.map (mv ad))
  refine sn_after (a := (As.map (mv ad)).toArray) hW hL hV1 hz (o := o) ?_ kx kk
  rcases hml2 with h | ⟨host, h⟩
  · exact vx_runS (Ts := lw_all) ⟨hx, hb, hml, hown, ht⟩ (hM hvk ad) ⟨callB_of n ht hG (by unfold wsq; rw [hwe]) rfl rfl (ht _ hin) (ht _ h) hdd hR, ht _ hst⟩ hpp rfl (by rw [List.length_map]; exact hn) hL.2.1 hstk hwd2 hd ⟨hRc, hRs⟩
  · exact vx_runSN (Ts := lw_all) ⟨hx, hb, hml, hown, ht⟩ (hM hvk ad) ⟨va_cnB n ht hG (by unfold wsq; rw [hwe]) rfl rfl (hN _ h rfl) (ht _ hin) hdd hR, ht _ hst, trivial⟩ hpp rfl (by rw [List.length_map]; exact hn) hL.2.1 hstk hwd2 hd ⟨hRc, hRs⟩
theorem sn_callI (hx : p.tables.exec = Jvm.exec) (hb : c.code = cc) (hml : c.maxLocals = nL) (ht : ∀ w ∈ lw_all, w.before args s = true) (hN : NWs s) (hown : s.vm.findClass own = some m.cls) (hp : SXP z0 SX) (hSB : SB D dA z0 SX ad s) (hc : CALLI own i n q) (hn : As.length = n) (hM : CT l D dA md z0 SX fr lc q (.ref b :: As) σ o) (hz : gz σ ≤ gz o.2) (hwd : am_wd r ≤ 8) (hd : decode cc pc = .ok (.invokespecial i, 3)) (hRf : fr + 1 ≤ R.frames) (hRl : lc + 64 ≤ R.locals) (hRc : cells + (cl (xt o) - cl σ) ≤ R.cells) (hRs : slots + (gs (xt o) - gs σ) ≤ R.slots)
    (kx : ∀ (ec x : Nat) (ad1 : Nat → Nat), o.1 = .inr (ec, x) → ext ad ad1 σ → XL p l e R s m args below meth c D dA md (AA z0) nL (cells + (cl (xt o) - cl σ)) (slots + (gs (xt o) - gs σ)) Q ad1 pc L r ec x o.2)
    (kk : ∀ (v : Option Value) (ad1 : Nat → Nat), o.1 = .inl v → ext ad ad1 σ → GL p l e R s m args below meth c D dA md (AA z0) nL (cells + (cl (xt o) - cl σ)) (slots + (gs (xt o) - gs σ)) Q ad1 (pc + 3) L (am_pv v r) o.2) : GL p l e R s m args below meth c D dA md (AA z0) nL cells slots Q ad pc L (As.reverse ++ .ref b :: r) σ := by
  intro H locs ls hW hL hV
  have hV1 : VOK σ L r := ⟨fun v hv => hV.1 v (List.mem_append_right _ (List.mem_cons_of_mem _ hv)), hV.2⟩
  obtain ⟨⟨h45, hin, hdd, hwq⟩, hnm, hst, hret, hhh, hml2⟩ := hc
  have hwe : wq q = Cond.code q.1 q.2.1 q.2.2.1 none := by unfold wq; rw [hhh, hret]
  have hG : GoodIn lw_all (wsq q) := by
    unfold wsq
    rw [hwe]
    exact lw_meth (by rw [← hwe]; exact hwq)
  have hR : (rmF fr lc σ o).frames + 1 ≤ R.frames ∧ 8 + (q.2.2.1 + 11) + (rmF fr lc σ o).locals ≤ R.locals := ⟨hRf, by show 8 + (q.2.2.1 + 11) + lc ≤ _; omega⟩
  have hstk : (F0 m pc ls ((As.reverse ++ .ref b :: r).map (mv ad))).stack = (As.map (mv ad)).reverse ++ .ref (ad b) :: r.map (mv ad) := by
    show (As.reverse ++ .ref b :: r).map (mv ad) = _
    rw [List.map_append, List.map_reverse]
    rfl
  have hwd2 : 2 * (F0 m pc ls ((As.reverse ++ .ref b :: r).map (mv ad))).monitorRoom + ((r.map (mv ad)).map fun v => v.category).sum ≤ 8 := by
    rw [wd_map]
    show 2 * 0 + _ ≤ _
    omega
  have hvk : ∀ v ∈ Value.ref b :: As, vok σ v := List.forall_mem_cons.mpr ⟨hV.1 _ (List.mem_append_right _ List.mem_cons_self), fun v hv => hV.1 v (List.mem_append_left _ (List.mem_reverse.mpr hv))⟩
  have hpp := pre_of hp hSB hW (.ref (ad b) :: As.map (mv ad))
  refine sn_after (a := (Value.ref (ad b) :: As.map (mv ad)).toArray) hW hL hV1 hz (o := o) ?_ kx kk
  rcases hml2 with h | ⟨host, h⟩
  · exact vx_runI (Ts := lw_all) ⟨hx, hb, hml, hown, ht⟩ (hM hvk ad) ⟨callB_of n ht hG (by unfold wsq; rw [hwe]) rfl rfl (ht _ hin) (ht _ h) hdd hR, hnm, ht _ hst⟩ hpp rfl (by rw [List.length_map]; exact hn) hL.2.1 hstk hwd2 hd ⟨hRc, hRs⟩
  · exact vx_runIN (Ts := lw_all) ⟨hx, hb, hml, hown, ht⟩ (hM hvk ad) ⟨va_cnB n ht hG (by unfold wsq; rw [hwe]) rfl rfl (hN _ h rfl) (ht _ hin) hdd hR, hnm, ht _ hst⟩ hpp rfl (by rw [List.length_map]; exact hn) hL.2.1 hstk hwd2 hd ⟨hRc, hRs⟩
theorem wsq_good (h : wq q ∈ lw_all) : GoodIn lw_all (wsq q) := lw_good (fun w hw => (List.mem_cons.mp hw).elim (fun e => by rw [e]; exact h) id)
theorem sn_callV (hx : p.tables.exec = Jvm.exec) (hb : c.code = cc) (hml : c.maxLocals = nL) (ht : ∀ w ∈ lw_all, w.before args s = true) (hN : NWs s) (hown : s.vm.findClass own = some m.cls) (hp : SXP z0 SX) (hSB : SB D dA z0 SX ad s) (hc : CALLV own i n ck q) (hck : (kdT md σ b).1 = ck) (hn : As.length = n) (hM : CT l D dA md z0 SX fr lc q (.ref b :: As) σ o) (hz : gz σ ≤ gz o.2) (hwd : am_wd r ≤ 8) (hd : decode cc pc = .ok (.invokevirtual i, 3)) (hRf : fr + 1 ≤ R.frames) (hRl : lc + 64 ≤ R.locals) (hRc : cells + (cl (xt o) - cl σ) ≤ R.cells) (hRs : slots + (gs (xt o) - gs σ) ≤ R.slots)
    (kx : ∀ (ec x : Nat) (ad1 : Nat → Nat), o.1 = .inr (ec, x) → ext ad ad1 σ → XL p l e R s m args below meth c D dA md (AA z0) nL (cells + (cl (xt o) - cl σ)) (slots + (gs (xt o) - gs σ)) Q ad1 pc L r ec x o.2)
    (kk : ∀ (v : Option Value) (ad1 : Nat → Nat), o.1 = .inl v → ext ad ad1 σ → GL p l e R s m args below meth c D dA md (AA z0) nL (cells + (cl (xt o) - cl σ)) (slots + (gs (xt o) - gs σ)) Q ad1 (pc + 3) L (am_pv v r) o.2) : GL p l e R s m args below meth c D dA md (AA z0) nL cells slots Q ad pc L (As.reverse ++ .ref b :: r) σ := by
  intro H locs ls hW hL hV
  have hV1 : VOK σ L r := ⟨fun v hv => hV.1 v (List.mem_append_right _ (List.mem_cons_of_mem _ hv)), hV.2⟩
  obtain ⟨⟨h45, hin, hdd, hwq⟩, ⟨hc10, qc, hqc, hqn⟩, hst, hsel⟩ := hc
  have hG : GoodIn lw_all (wsq q) := wsq_good hwq
  have hR : (rmF fr lc σ o).frames + 1 ≤ R.frames ∧ 8 + (q.2.2.1 + 11) + (rmF fr lc σ o).locals ≤ R.locals := ⟨hRf, by show 8 + (q.2.2.1 + 11) + lc ≤ _; omega⟩
  have hstk : (F0 m pc ls ((As.reverse ++ .ref b :: r).map (mv ad))).stack = (As.map (mv ad)).reverse ++ .ref (ad b) :: r.map (mv ad) := by
    show (As.reverse ++ .ref b :: r).map (mv ad) = _
    rw [List.map_append, List.map_reverse]
    rfl
  have hwd2 : 2 * (F0 m pc ls ((As.reverse ++ .ref b :: r).map (mv ad))).monitorRoom + ((r.map (mv ad)).map fun v => v.category).sum ≤ 8 := by
    rw [wd_map]
    show 2 * 0 + _ ≤ _
    omega
  have hvk : ∀ v ∈ Value.ref b :: As, vok σ v := List.forall_mem_cons.mpr ⟨hV.1 _ (List.mem_append_right _ List.mem_cons_self), fun v hv => hV.1 v (List.mem_append_left _ (List.mem_reverse.mpr hv))⟩
  have hpp := pre_of hp hSB hW (.ref (ad b) :: As.map (mv ad))
  have hbl := hW.2.2.2.lt (a := b) (by omega)
  have hat := (e_at (ad := ad) (dA := dA) hbl).trans (by rw [e_o (by rw [hck]; exact hc10), hck])
  have hrec := va_recv hSB.2.1 hW.1 hqc hat
  rw [hqn] at hrec
  have hpv : PreV s H q.1.cls (ad b) (va_Pc ((.ref b :: As).map (mv ad)) (fun U => SB D dA z0 SX ad U ∧ HB D dA md z0 ad σ U.heap)) (As.map (mv ad)) := ⟨hpp.1, hrec, hpp.2⟩
  refine sn_after (a := (Value.ref (ad b) :: As.map (mv ad)).toArray) hW hL hV1 hz (o := o) ?_ kx kk
  rcases hsel with ⟨hs, hs2⟩ | ⟨x, hhh, g1, g2, g3, g4, g5⟩
  · rcases hs2 with ⟨hhh, h | ⟨host, h⟩⟩ | h
    · have hwe : wq q = Cond.code q.1 q.2.1 q.2.2.1 q.2.2.2.1 := by unfold wq; rw [hhh]
      exact vx_runV (Ts := lw_all) ⟨hx, hb, hml, hown, ht⟩ (hM hvk ad) ⟨callB_of n ht hG (by unfold wsq; rw [hwe]) rfl rfl (ht _ hin) (ht _ h) hdd hR, ht _ hst, ht _ hs⟩ hpv rfl (by rw [List.length_map]; exact hn) hL.2.1 hstk hwd2 hd ⟨hRc, hRs⟩
    · have hwe : wq q = Cond.code q.1 q.2.1 q.2.2.1 q.2.2.2.1 := by unfold wq; rw [hhh]
      exact vx_runVN (Ts := lw_all) ⟨hx, hb, hml, hown, ht⟩ (hM hvk ad) ⟨va_cnB n ht hG (by unfold wsq; rw [hwe]) rfl rfl (hN _ h rfl) (ht _ hin) hdd hR, ht _ hst, ht _ hs⟩ hpv rfl (by rw [List.length_map]; exact hn) hL.2.1 hstk hwd2 hd ⟨hRc, hRs⟩
    · by_cases hhh : q.2.2.2.2 = []
      · have hwe : wq q = Cond.code q.1 q.2.1 q.2.2.1 q.2.2.2.1 := by unfold wq; rw [hhh]
        exact vx_runV (Ts := lw_all) ⟨hx, hb, hml, hown, ht⟩ (hM hvk ad) ⟨callB_of n ht hG (by unfold wsq; rw [hwe]) rfl rfl (ht _ hin) (ht _ h) hdd hR, ht _ hst, ht _ hs⟩ hpv rfl (by rw [List.length_map]; exact hn) hL.2.1 hstk hwd2 hd ⟨hRc, hRs⟩
      · have hwe : wq q = Cond.codeWith q.1 q.2.1 q.2.2.1 q.2.2.2.1 q.2.2.2.2 := by
          unfold wq
          cases hq : q.2.2.2.2 with
          | nil => exact absurd hq hhh
          | cons a t => rfl
        exact vx_runVX (Ts := lw_all) ⟨hx, hb, hml, hown, ht⟩ (hM hvk ad) (vx_cwVW (ws := wsq q) n ht (by unfold wsq; rw [hwe]; exact lw_VW h hst hs hin (by rw [← hwe]; exact hwq)) (by unfold wsq; rw [hwe]) rfl rfl ⟨rfl, hdd⟩ hR) hpv rfl (by rw [List.length_map]; exact hn) hL.2.1 hstk hwd2 hd ⟨hRc, hRs⟩
  · have hwe : wq q = Cond.code q.1 q.2.1 q.2.2.1 q.2.2.2.1 := by unfold wq; rw [hhh]
    exact vx_runU (Ts := lw_all) ⟨hx, hb, hml, hown, ht⟩ (hM hvk ad) (va_cwA n ht (by
      unfold va_wsU
      exact lw_app (fun w hw => by
        rcases List.mem_cons.mp hw with e | hw
        · rw [e]; exact g1
        rcases List.mem_cons.mp hw with e | hw
        · rw [e]; exact g2
        rcases List.mem_cons.mp hw with e | hw
        · rw [e]; exact g3
        rcases List.mem_cons.mp hw with e | hw
        · rw [e]; exact hst
        rcases List.mem_cons.mp hw with e | hw
        · rw [e]; exact hin
        cases hw) hG) (by unfold wsq; rw [hwe]) rfl rfl (hN _ g4 rfl) g5 hR) hpv rfl (by rw [List.length_map]; exact hn) hL.2.1 hstk hwd2 hd ⟨hRc, hRs⟩
end SNK
