set_option maxRecDepth 100000

/-! SOUNDNESS 20: default methods -/
def anc (vm : Vm) : Nat → ClassId → Option ClassId
  | 0, c => some c
  | n + 1, c => (vm.classes[c]?.bind (·.super)).bind (anc vm n)
theorem anc_add (vm : Vm) : ∀ (a b : Nat) (c : ClassId), anc vm (a + b) c = (anc vm a c).bind (anc vm b) := by
  intro a
  induction a with
  | zero => intro b c; rw [Nat.zero_add]; rfl
  | succ a ih =>
    intro b c
    rw [Nat.succ_add]
    show (vm.classes[c]?.bind (·.super)).bind (anc vm (a + b)) = ((vm.classes[c]?.bind (·.super)).bind (anc vm a)).bind (anc vm b)
    cases vm.classes[c]?.bind (·.super) with
    | none => rfl
    | some q => exact ih b q
theorem anc_mem (vm : Vm) : ∀ (n : Nat) (c p : ClassId), p ∈ vm.superclassesAux n c → ∃ i, i < n ∧ anc vm (i + 1) c = some p := by
  intro n
  induction n with
  | zero => intro c p h; unfold Vm.superclassesAux at h; cases h
  | succ n ih =>
    intro c p h
    unfold Vm.superclassesAux at h
    split at h
    · rename_i q hq
      rcases List.mem_cons.mp h with e | h
      · refine ⟨0, Nat.succ_pos _, ?_⟩
        show (vm.classes[c]?.bind (·.super)).bind (anc vm 0) = some p
        rw [hq, e]
        rfl
      · obtain ⟨i, h1, h2⟩ := ih q p h
        refine ⟨i + 1, Nat.succ_lt_succ h1, ?_⟩
        show (vm.classes[c]?.bind (·.super)).bind (anc vm (i + 1)) = some p
        rw [hq]
        exact h2
    · cases h
theorem anc_none (vm : Vm) (name desc : String) : ∀ (n : Nat) (c : ClassId), lookupInSuperclasses vm name desc n c = none → ∀ (i : Nat) (p : ClassId), i < n → anc vm i c = some p → ownMethod vm name desc p = none := by
  intro n
  induction n with
  | zero => intro c h i p hi; exact absurd hi (Nat.not_lt_zero _)
  | succ n ih =>
    intro c h i p hi ha
    unfold lookupInSuperclasses at h
    cases hk : vm.classes[c]? with
    | none =>
      cases i with
      | zero => cases ha; simp [ownMethod, hk]
      | succ i =>
        have ha : (vm.classes[c]?.bind (·.super)).bind (anc vm i) = some p := ha
        rw [hk] at ha
        cases ha
    | some k =>
      simp only [hk, Option.bind_eq_bind, Option.bind_some] at h
      cases hf : k.findMethod name desc with
      | some j => simp [hf] at h
      | none =>
        simp only [hf] at h
        cases i with
        | zero => cases ha; simp [ownMethod, hk, hf]
        | succ i =>
          have ha : (vm.classes[c]?.bind (·.super)).bind (anc vm i) = some p := ha
          cases hs : k.super with
          | none => rw [hk] at ha; simp [hs] at ha
          | some q =>
            rw [hk] at ha
            simp only [Option.bind_some, hs] at ha h
            exact ih q h i p (Nat.lt_of_succ_lt_succ hi) ha
/-- a chain that is longer than there are classes comes round -/
theorem anc_round (vm : Vm) (c p : ClassId) (h : anc vm (vm.classes.size + 1) c = some p) : ∃ i, i ≤ vm.classes.size ∧ anc vm i c = some p := by
  have hall : ∀ i, i ≤ vm.classes.size → ∃ q : Nat, anc vm i c = some q ∧ q < vm.classes.size := by
    intro i hi
    obtain ⟨d, hd⟩ := Nat.exists_eq_add_of_le hi
    have e : vm.classes.size + 1 = i + (d + 1) := by omega
    rw [e, anc_add] at h
    cases ha : anc vm i c with
    | none => rw [ha] at h; cases h
    | some q =>
      rw [ha] at h
      refine ⟨q, rfl, ?_⟩
      have h : (vm.classes[q]?.bind (·.super)).bind (anc vm d) = some p := h
      rcases Nat.lt_or_ge q vm.classes.size with hq | hq
      · exact hq
      · rw [Array.getElem?_eq_none hq] at h
        cases h
  have hex : ∃ f : Nat → Nat, ∀ i, i ≤ vm.classes.size → anc vm i c = some (f i) ∧ f i < vm.classes.size := by
    refine ⟨fun i => (anc vm i c).getD 0, fun i hi => ?_⟩
    obtain ⟨q, h1, h2⟩ := hall i hi
    show anc vm i c = some ((anc vm i c).getD 0) ∧ (anc vm i c).getD 0 < vm.classes.size
    rw [h1]
    exact ⟨rfl, h2⟩
  obtain ⟨f, hf⟩ := hex
  have hdup : ∃ i j, i < j ∧ j ≤ vm.classes.size ∧ f i = f j := by
    apply Classical.byContradiction
    intro hno
    have hnd : ((List.range (vm.classes.size + 1)).map f).Nodup := by
      refine List.pairwise_map.mpr (List.Pairwise.imp_of_mem ?_ (List.pairwise_lt_range (n := vm.classes.size + 1)))
      intro a b ha hb hlt e
      exact hno ⟨a, b, hlt, by have := List.mem_range.mp hb; omega, e⟩
    have hle := hnd.length_le_of_subset (l₂ := List.range vm.classes.size) (fun x hx => by
      obtain ⟨i, hi, rfl⟩ := List.mem_map.mp hx
      exact List.mem_range.mpr (hf i (by have := List.mem_range.mp hi; omega)).2)
    rw [List.length_map, List.length_range, List.length_range] at hle
    omega
  obtain ⟨i, j, hij, hj, he⟩ := hdup
  refine ⟨i + (vm.classes.size + 1 - j), by omega, ?_⟩
  have e1 : vm.classes.size + 1 = j + (vm.classes.size + 1 - j) := by omega
  rw [e1, anc_add, (hf j hj).1] at h
  rw [anc_add, (hf i (by omega)).1, he]
  exact h
theorem chain_none {vm : Vm} {name desc : String} {c : ClassId} (h : lookupInSuperclasses vm name desc (vm.classes.size + 1) c = none) : ownMethod vm name desc c = none ∧ superclassMethods vm c name desc = [] := by
  have h1 := anc_none vm name desc _ c h
  refine ⟨h1 0 c (Nat.succ_pos _) rfl, ?_⟩
  unfold superclassMethods
  refine List.filterMap_eq_nil_iff.mpr (fun p hp => ?_)
  obtain ⟨i, hi, ha⟩ := anc_mem vm _ c p hp
  rcases Nat.lt_or_ge (i + 1) (vm.classes.size + 1) with q | q
  · exact h1 (i + 1) p q ha
  · have e : i + 1 = vm.classes.size + 1 := by omega
    rw [e] at ha
    obtain ⟨k, hk, hk2⟩ := anc_round vm c p ha
    exact h1 k p (by omega) hk2
theorem sel_none {vm : Vm} {name desc : String} {mR : MethodId} : ∀ (n : Nat) (c : ClassId), lookupInSuperclasses vm name desc n c = none → selectInSuperclasses vm mR name desc n c = none := by
  intro n
  induction n with
  | zero => intro c _; rfl
  | succ n ih =>
    intro c h
    unfold lookupInSuperclasses at h
    unfold selectInSuperclasses
    cases hk : vm.classes[c]? with
    | none => rfl
    | some k =>
      simp only [hk, Option.bind_eq_bind, Option.bind_some] at h ⊢
      cases hf : k.findMethod name desc with
      | some j => simp [hf] at h
      | none =>
        simp only [hf] at h
        cases hs : k.super with
        | none => simp
        | some q =>
          simp only [hs, Option.bind_some] at h
          simp [ih q h]
theorem special_default {vm : Vm} {c : ClassId} {k : Class} {name desc : String} {m : MethodId} {meth : Method} (hk : vm.classes[c]? = some k) (hni : k.isInterface = false) (hl : vm.lookupUp c name desc = some m) (hm : vm.method? m = some meth) (hst : meth.isStatic = false) (hpr : meth.isPrivate = false) (hn : meth.name = name) (hd : meth.desc = desc) (hsel : selectMethod {} vm c m = .method m) : lookupSpecial vm c name desc = .method m := by
  cases hL : lookupInSuperclasses vm name desc (vm.classes.size + 1) c with
  | some x => exact lookupSpecial_of_lookupUp hk hni hl (by rw [hL]; rfl) hm hst
  | none =>
    obtain ⟨h1, h2⟩ := chain_none hL
    have h3 := sel_none (mR := m) _ c hL
    have h1' : (vm.classes[c]?.bind (·.findMethod name desc)).map (fun i => (⟨c, i⟩ : MethodId)) = none := h1
    have href : refusedOverriding {} vm c name desc = false := by
      unfold refusedOverriding
      simp only [h1', h2]
      rfl
    unfold selectMethod at hsel
    rw [hm] at hsel
    dsimp only at hsel
    rw [hpr, hn, hd, href, h3] at hsel
    simp only [Bool.false_and, Bool.false_eq_true, if_false] at hsel
    unfold lookupSpecial
    simp only [h1', h2, List.filter_nil, Option.toList_none, List.append_nil, List.find?_nil]
    exact hsel
theorem default_open {args : Array Value} {s : State} {cls : String} {x y : MethodName} (h : (Cond.landsInDefault cls x y).before args s = true) : ∃ r rm, s.methodFound? x.cls x.name x.desc = some r ∧ s.vm.method? r = some rm ∧ rm.isPrivate = false := by
  simp only [Cond.before, Cond.holds, Cond.value] at h
  cases hc : s.vm.findClass cls with
  | none => simp [hc] at h
  | some c =>
  cases hr : s.methodFound? x.cls x.name x.desc with
  | none => simp [hc, hr] at h
  | some r =>
  cases hm : s.methodNamed? y with
  | none => simp [hc, hr, hm] at h
  | some m =>
  cases hrm : s.vm.method? r with
  | none => simp [hc, hr, hm, hrm] at h
  | some rm =>
  simp only [hc, hr, hm, hrm, Option.map_some, beq_iff_eq, Option.some.injEq] at h
  split at h
  · rename_i m' hsel
    simp only [Bool.and_eq_true, decide_eq_true_eq, Bool.not_eq_true', Option.any_eq_true] at h
    exact ⟨r, rm, rfl, hrm, h.1.1.2⟩
  · cases h
section SND2
variable {p : Program} {l : Launch} {e : Env} {R : Room} {s : State} {m : MethodId} {args : Array Value} {below : List Frame} {meth : Method} {c : Code} {H : Heap} {locs : List Loc} {cells slots : Nat}
theorem vx_callUD {T : State} {locs : List Loc} {cells slots : Nat} (X : Stand p l e R s m args below meth c T locs cells slots) (hexec : p.tables.exec = Jvm.exec) {own C owner : String} {index : Nat} {x y : MethodName} {bytes : ByteArray} {maxL : Nat} {ret : Option FieldType}
    (hown : s.vm.findClass own = some m.cls) (hlink : (Cond.methodLink own index x).before args s = true) (hsame : (Cond.sameMethod x.cls owner x.name x.desc).before args s = true)
    (hd0 : va_Decl s ⟨owner, x.name, x.desc⟩) (howner : owner ≠ "java/lang/invoke/MethodHandle" ∧ owner ≠ "java/lang/invoke/VarHandle")
    (hsel : (Cond.landsInDefault C x y).before args s = true) (hinst : (Cond.instanceMethod y).before args s = true)
    {W : Nat} {Pre : Pt → Array Value → Prop} {Post : Pt → Array Value → Option Value → Pt → Prop} {PostX : Pt → Array Value → Addr → Pt → Prop} (hK : vx_Back l R p e below s args y 3 W Pre Post PostX)
    {b : Addr} {cellB : Cell} (hcell : T.heap[b]? = some cellB) (hobj : cellB.vm.isStatics = false) (hcls : s.vm.findClass C = some cellB.cls)
    {g : JFrame} (hg : g.method = m) (hsize : g.locals.size = c.maxLocals) {argsL rest : List Value} (hlen : ∀ sig, parseMethodDescriptor x.desc = some sig → argsL.length = sig.parameters.length)
    (hstack : g.stack = argsL.reverse ++ .ref b :: rest) (hW : 2 * g.monitorRoom + (rest.map fun v => v.category).sum ≤ W) (hdg : decode c.code g.pc = .ok (.invokevirtual index, 3))
    (hpre : ∀ vm₁, s.WarmedH vm₁ → Pre ⟨T.setVm vm₁, locs, cells, slots⟩ (Value.ref b :: argsL).toArray) :
    (∃ (v : Option Value) (vm₁ : Vm) (B : Pt), s.WarmedH vm₁ ∧ Stand p l e R s m args below meth c B.U B.locs B.cells B.slots ∧ Post ⟨T.setVm vm₁, locs, cells, slots⟩ (Value.ref b :: argsL).toArray v B ∧
      ∀ target, Steps p.tables e below (B.U.setTop { g with pc := g.pc + 3, stack := v.toList ++ rest }) target → Steps p.tables e below (T.setTop g) target) ∨
    (∃ (q : Addr) (vm₁ : Vm) (B : Pt), s.WarmedH vm₁ ∧ Stand p l e R s m args below meth c B.U B.locs B.cells B.slots ∧ PostX ⟨T.setVm vm₁, locs, cells, slots⟩ (Value.ref b :: argsL).toArray q B ∧
      Steps p.tables e below (T.setTop g) ((B.U.setTop { g with stack := rest }).pushFrame (.throwing q))) := by
  obtain ⟨r0, r, hn, hrm, hstR, hsigR⟩ := hd0
  obtain ⟨cn, ck, r1, hcn, hck, hni, hf, hn1⟩ := Cond.sameMethod_found hsame
  cases hn.symm.trans hn1
  obtain ⟨mk, methM, hnamed, hmethM, -, habM⟩ := Cond.instanceMethod_spec hinst
  obtain ⟨c2, r2, m2, rm, q1, q2, q3, q5, q4, ⟨kP, hkP, hkPi⟩, -, q7⟩ := Cond.landsInDefault_spec hsel
  cases hcls.symm.trans q1
  cases hf.symm.trans q2
  cases hnamed.symm.trans q3
  cases hrm.symm.trans q5
  have hselP : selectMethod e.platform s.vm cellB.cls r0 = .method mk := by rw [Launch.admits_selectMethod X.admits]; exact q4
  obtain ⟨vm₁, X₁, hstep₁⟩ := X.invokevirtualUpD hexec hown hlink hsame howner hn hrm hstR (a := b) (cell := cellB) hcell
    (fun z h => by rw [h] at hobj; cases hobj) hselP hmethM habM hkP hkPi q7 (g := g) hg (argsL := argsL) (rest := rest) (hlen _ hsigR) hstack hdg
  rcases hK m meth c ⟨T.setVm vm₁, locs, cells, slots⟩ { g with stack := rest } (.invokevirtual index) mk (Value.ref b :: argsL).toArray X₁ hg hsize hdg hW (X₁.named hnamed) (hpre vm₁ X₁.warmed) with ⟨v, B, X', hpost, hsteps⟩ | ⟨q, B, X', hpost, hsteps⟩
  · exact Or.inl ⟨v, vm₁, B, X₁.warmed, X', hpost, fun target h => hstep₁ _ fun acts => by rw [doInvoke_state]; exact hsteps.trans h⟩
  · exact Or.inr ⟨q, vm₁, B, X₁.warmed, X', hpost, hstep₁ _ fun acts => by rw [doInvoke_state]; exact hsteps⟩
/-- a call whose run is told by what is asked of its callee -/
theorem vx_runG {y : MethodName} {bytes : ByteArray} {maxL mc ms : Nat} {ret : Option FieldType} {ws : List Cond} {rm : Room} {Pc : Array Value → State → Prop} {Qc : Array Value → State → Outcome → State → Prop} {XC : String → Addr → State → State → Prop} {free : Addr → Prop} {b : Addr} {As rest : List Value} {g : JFrame} {C : String}
    (hM : vx_Met l y ws rm Pc Qc XC mc ms free) (hback : rm.cells = mc ∧ rm.slots = ms ∧ rm.frames + 1 ≤ R.frames ∧ 8 + (maxL + 11) + rm.locals ≤ R.locals ∧ (∀ w ∈ ws, ∀ (a' : Array Value) (U : State), s.WarmedH U.vm → w.before a' U = true) ∧ Cond.code y bytes maxL ret ∈ ws) (hini : (Cond.initialized y.cls).before args s = true) (hp : PreV s H C b Pc As) (hf : cells + mc ≤ R.cells ∧ slots + ms ≤ R.slots)
    (call : ∀ (T : State) (X : Stand p l e R s m args below meth c T locs cells slots) (hT : T.heap = H) {Pre : Pt → Array Value → Prop} {Post : Pt → Array Value → Option Value → Pt → Prop} {PostX : Pt → Array Value → Addr → Pt → Prop} (hK : vx_Back l R p e below s args y 3 8 Pre Post PostX) (hpre : ∀ vm₁, s.WarmedH vm₁ → Pre ⟨T.setVm vm₁, locs, cells, slots⟩ (Value.ref b :: As).toArray),
      (∃ (v : Option Value) (vm₁ : Vm) (B : Pt), s.WarmedH vm₁ ∧ Stand p l e R s m args below meth c B.U B.locs B.cells B.slots ∧ Post ⟨T.setVm vm₁, locs, cells, slots⟩ (Value.ref b :: As).toArray v B ∧
        ∀ target, Steps p.tables e below (B.U.setTop { g with pc := g.pc + 3, stack := v.toList ++ rest }) target → Steps p.tables e below (T.setTop g) target) ∨
      (∃ (q : Addr) (vm₁ : Vm) (B : Pt), s.WarmedH vm₁ ∧ Stand p l e R s m args below meth c B.U B.locs B.cells B.slots ∧ PostX ⟨T.setVm vm₁, locs, cells, slots⟩ (Value.ref b :: As).toArray q B ∧
        Steps p.tables e below (T.setTop g) ((B.U.setTop { g with stack := rest }).pushFrame (.throwing q)))) :
    vx_Run p l e R s m args below meth c H locs cells slots mc ms g rest (Qc (Value.ref b :: As).toArray) XC free := by
  obtain ⟨hrc, hrs, hfr, hlo, hws, hcw⟩ := hback
  have hK : vx_Back l R p e below s args y 3 8 (PreOf R mc ms Pc) (PostOf Qc mc ms free) (vx_Post XC mc ms free) := vx_back (bytes := bytes) (maxL := maxL) (ret := ret) hM hp.1 hrc hrs hfr hlo hws hcw (fun a' U hW => word_at hW (Or.inl (by first | rfl | simp [Cond.onTables, Cond.keeps, Cond.steady])) hini)
  obtain ⟨-, -, hPc⟩ := hp
  intro T hT X
  rcases call T X hT hK (fun vm₁ hW₁ => ⟨hf.1, hf.2, hPc (T.setVm vm₁) hT hW₁⟩) with ⟨v, vm₁, ⟨U', l2, c2, s2⟩, hW₁, X', ⟨g', mk, t, L, e1, e2, hq, h1, hL, h2, h3⟩, st⟩ | ⟨q, vm₁, ⟨U', l2, c2, s2⟩, hW₁, X', ⟨g', mk, t, L, E, ce, e1, e2, hq, hce, hcv, hcl, h1, hL, h2, h3⟩, st⟩
  · dsimp only [Pt.U, Pt.locs, Pt.cells, Pt.slots] at X' e1 e2 h1 h2 h3 st
    subst h1; subst h2; subst h3
    exact Or.inl ⟨v, (T.setVm vm₁).calling g' mk (Value.ref b :: As).toArray, t, U', L, hT, X', hL, e1, e2, hq, st⟩
  · dsimp only [Pt.U, Pt.locs, Pt.cells, Pt.slots] at X' e1 e2 h1 h2 h3 st hcl
    subst h1; subst h2; subst h3
    exact Or.inr ⟨q, (T.setVm vm₁).calling g' mk (Value.ref b :: As).toArray, t, U', L, E, ce, hT, X', hL, e1, e2, hq, hce, hcv, vx_cls hW₁ hcl, st⟩
theorem special_up {T : State} {locs : List Loc} {cells slots : Nat} (X : Stand p l e R s m args below meth c T locs cells slots) (hexec : p.tables.exec = Jvm.exec)
    {own owner : String} {index : Nat} {x : MethodName} (hown : s.vm.findClass own = some m.cls) (hlink : (Cond.methodLink own index x).before args s = true)
    (hsame : (Cond.sameMethod x.cls owner x.name x.desc).before args s = true)
    {r0 : MethodId} {r : Method} (hn : s.methodNamed? ⟨owner, x.name, x.desc⟩ = some r0) (hrm : s.vm.method? r0 = some r) (hstatic : r.isStatic = false) (habs : r.isAbstract = false) (hnoinit : x.name ≠ "<init>")
    {dk : Class} {cn : ClassId} (hd : s.vm.classes[m.cls]? = some dk) (hnid : dk.isInterface = false) (hcn : s.vm.findClass x.cls = some cn) (hsuper : dk.super = some cn) (hfound0 : lookupSpecial s.vm cn x.name x.desc = .method r0)
    {a : Addr} {cell : Cell} {kcell : Class} (hcell : T.heap[a]? = some cell) (hobj : ∀ c, cell.vm ≠ .statics c) (hkcell : s.vm.classes[cell.cls]? = some kcell)
    {g : JFrame} (hg : g.method = m) {argsL rest : List Value} (hlen : argsL.length = r.sig.parameters.length) (hstack : g.stack = argsL.reverse ++ .ref a :: rest)
    (hdg : decode c.code g.pc = .ok (.invokespecial index, 3)) :
    ∃ vm', Stand p l e R s m args below meth c (T.setVm vm') locs cells slots ∧
      ∀ target, Steps p.tables e below (doInvoke e ((T.setVm vm').setTop { g with stack := rest }) [] r0 (.ref a :: argsL).toArray).1 target → Steps p.tables e below (T.setTop g) target := by
  have hpl : e.platform.magicAccessors = ({} : Platform).magicAccessors := by rw [X.admits.platform]
  obtain ⟨cn', ck, r1, hcn', hck, hni, hf, hn1⟩ := Cond.sameMethod_found hsame
  cases hn.symm.trans hn1
  cases hcn.symm.trans hcn'
  obtain ⟨ci, hl, hright⟩ := Cond.methodLink_specUp hown hcn hck hni hf hlink e.platform hpl (by rw [X.admits.platform])
  obtain ⟨kr, hkr, -⟩ := className_of_methodNamed hn
  obtain ⟨hrn, hrd⟩ := name_of_methodNamed hn hrm
  obtain ⟨dk₀, cfile, nt, _, _, ck₀, _, _, hd₀, hcf, hcp, -, -, -, hc₀, -, hpoly, -⟩ := hl.here
  cases hd.symm.trans hd₀
  cases hck.symm.trans hc₀
  subst hg
  obtain ⟨vm', hW', st⟩ := Steps.invokeSuperColdArgs (tb := p.tables) (e := e) (s₀ := s) (U := T) (f := g) (args := argsL) (rest := rest) (a := a) (cell := cell) (m := r0) X.here hexec hdg X.warmed hl hright hd hcf hcp hrm hck
    (by rw [hrn]; simp [hnoinit]) hstatic (by rw [hrn, hrd, hsuper]; simpa using hfound0) hnid hkr habs hlen hstack hcell hobj hkcell
  exact ⟨vm', X.noted hW', st⟩
/-- super.m(), where m is a default of an interface of the class above -/
theorem vx_callSD {T : State} {locs : List Loc} {cells slots : Nat} (X : Stand p l e R s m args below meth c T locs cells slots) (hexec : p.tables.exec = Jvm.exec) {own owner : String} {index : Nat} {x y : MethodName}
    (hown : s.vm.findClass own = some m.cls) (hlink : (Cond.methodLink own index x).before args s = true) (hsame : (Cond.sameMethod x.cls owner x.name x.desc).before args s = true) (hsup : (Cond.superclass own x.cls).before args s = true)
    (hy : y = ⟨owner, x.name, x.desc⟩) (hsel : (Cond.landsInDefault x.cls x y).before args s = true) (hinst : (Cond.instanceMethod y).before args s = true) (hsig : ∃ (r0 : MethodId) (r : Method), s.methodNamed? y = some r0 ∧ s.vm.method? r0 = some r ∧ parseMethodDescriptor y.desc = some r.sig) (hno : x.name ≠ "<init>")
    {W : Nat} {Pre : Pt → Array Value → Prop} {Post : Pt → Array Value → Option Value → Pt → Prop} {PostX : Pt → Array Value → Addr → Pt → Prop} (hK : vx_Back l R p e below s args y 3 W Pre Post PostX)
    {b : Addr} {cellB : Cell} {kB : Class} (hcell : T.heap[b]? = some cellB) (hobj : cellB.vm.isStatics = false) (hkB : s.vm.classes[cellB.cls]? = some kB)
    {g : JFrame} (hg : g.method = m) (hsize : g.locals.size = c.maxLocals) {argsL rest : List Value} (hlen : ∀ sig, parseMethodDescriptor y.desc = some sig → argsL.length = sig.parameters.length)
    (hstack : g.stack = argsL.reverse ++ .ref b :: rest) (hW : 2 * g.monitorRoom + (rest.map fun v => v.category).sum ≤ W) (hdg : decode c.code g.pc = .ok (.invokespecial index, 3))
    (hpre : ∀ vm₁, s.WarmedH vm₁ → Pre ⟨T.setVm vm₁, locs, cells, slots⟩ (Value.ref b :: argsL).toArray) :
    (∃ (v : Option Value) (vm₁ : Vm) (B : Pt), s.WarmedH vm₁ ∧ Stand p l e R s m args below meth c B.U B.locs B.cells B.slots ∧ Post ⟨T.setVm vm₁, locs, cells, slots⟩ (Value.ref b :: argsL).toArray v B ∧
      ∀ target, Steps p.tables e below (B.U.setTop { g with pc := g.pc + 3, stack := v.toList ++ rest }) target → Steps p.tables e below (T.setTop g) target) ∨
    (∃ (q : Addr) (vm₁ : Vm) (B : Pt), s.WarmedH vm₁ ∧ Stand p l e R s m args below meth c B.U B.locs B.cells B.slots ∧ PostX ⟨T.setVm vm₁, locs, cells, slots⟩ (Value.ref b :: argsL).toArray q B ∧
      Steps p.tables e below (T.setTop g) ((B.U.setTop { g with stack := rest }).pushFrame (.throwing q))) := by
  subst hy
  obtain ⟨mk, methM, hnamed, hmethM, hstM, habM⟩ := Cond.instanceMethod_spec hinst
  obtain ⟨r9, meth9, hn9, hm9, hsigM⟩ := hsig
  cases hnamed.symm.trans hn9
  cases hmethM.symm.trans hm9
  obtain ⟨ps, dk, kp, hps, hdk, hkp, hsuper, -, -, hnid⟩ := Cond.superclass_spec hown hsup
  obtain ⟨cn, ck, r1, hcn, hck, hni, hf, hn1⟩ := Cond.sameMethod_found hsame
  cases hnamed.symm.trans hn1
  cases hps.symm.trans hcn
  obtain ⟨hrn, hrd⟩ := name_of_methodNamed hnamed hmethM
  obtain ⟨c2, r2, m2, rm, q1, q2, q3, q5, q4, -, -, -⟩ := Cond.landsInDefault_spec hsel
  cases hps.symm.trans q1
  cases hf.symm.trans q2
  cases hnamed.symm.trans q3
  obtain ⟨r3, rm3, w1, w2, w3⟩ := default_open hsel
  cases hf.symm.trans w1
  cases hmethM.symm.trans w2
  have hup : s.vm.lookupUp ps x.name x.desc = some mk := by
    obtain ⟨ci, hl, hright⟩ := Cond.methodLink_specUp hown hcn hck hni hf hlink e.platform (by rw [X.admits.platform]) (by rw [X.admits.platform])
    obtain ⟨dk₀, cfile, nt, _, _, ck₀, _, _, hd₀, hcf, hcp, -, -, -, hc₀, -, hpoly, -⟩ := hl.here
    cases hck.symm.trans hc₀
    exact ((State.methodFound?_class hcn hck hni hpoly mk).mp hf).1
  have hfound0 : lookupSpecial s.vm ps x.name x.desc = .method mk := special_default hck hni hup hmethM hstM w3 hrn hrd q4
  obtain ⟨vm', X₁, st⟩ := special_up X hexec hown hlink hsame hnamed hmethM hstM habM hno hdk hnid hps hsuper hfound0 (a := b) (cell := cellB) hcell (fun z h => by rw [h] at hobj; cases hobj) hkB (g := g) hg (argsL := argsL) (rest := rest) (hlen _ hsigM) hstack hdg
  rcases hK m meth c ⟨T.setVm vm', locs, cells, slots⟩ { g with stack := rest } (.invokespecial index) mk (Value.ref b :: argsL).toArray X₁ hg hsize hdg hW (X₁.named hnamed) (hpre vm' X₁.warmed) with ⟨v, B, X', hpost, hsteps⟩ | ⟨q, B, X', hpost, hsteps⟩
  · exact Or.inl ⟨v, vm', B, X₁.warmed, X', hpost, fun target h => st _ (by rw [doInvoke_state]; exact hsteps.trans h)⟩
  · exact Or.inr ⟨q, vm', B, X₁.warmed, X', hpost, st _ (by rw [doInvoke_state]; exact hsteps)⟩
end SND2
