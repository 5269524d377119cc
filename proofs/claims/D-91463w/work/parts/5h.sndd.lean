/-! SOUNDNESS 14: the machine's own throws -/
set_option maxRecDepth 100000
theorem sb_units (l : List Char) : ∀ acc : Array UInt16, (l.foldl (init := acc) fun acc c => if c.toNat < 0x10000 then acc.push c.toNat.toUInt16 else if 0x100000 ≤ c.toNat && c.toNat ≤ 0x1007FF then acc.push (0xD800 + (c.toNat - 0x100000)).toUInt16 else (acc.push (0xD800 + (c.toNat - 0x10000) / 0x400).toUInt16).push (0xDC00 + (c.toNat - 0x10000) % 0x400).toUInt16).size ≤ acc.size + 2 * l.length := by
  induction l with
  | nil => intro acc; exact Nat.le_add_right _ _
  | cons c l ih =>
    intro acc
    rw [List.foldl_cons]
    refine Nat.le_trans (ih _) ?_
    rw [List.length_cons]
    split
    · rw [Array.size_push]; omega
    · split
      · rw [Array.size_push]; omega
      · rw [Array.size_push, Array.size_push]; omega
theorem sb_flat (l : List UInt16) : (l.flatMap fun (u : UInt16) => [byteValue u.toUInt8, byteValue (u >>> 8).toUInt8]).length = 2 * l.length := by
  induction l with
  | nil => rfl
  | cons u l ih => rw [List.flatMap_cons, List.length_append, ih]; show 2 + _ = _; rw [List.length_cons]; omega
theorem sb_size (u : Array UInt16) : (stringBytes u).size ≤ 2 * u.size := by
  unfold stringBytes
  split
  · rw [Array.size_map]; omega
  · rw [← Array.length_toList, Array.toList_flatMap]
    have h := sb_flat u.toList
    rw [show (u.toList.flatMap fun (u : UInt16) => [byteValue u.toUInt8, byteValue (u >>> 8).toUInt8]) = (u.toList.flatMap fun (a : UInt16) => (#[byteValue a.toUInt8, byteValue (a >>> 8).toUInt8] : Array Value).toList) from rfl] at h
    rw [h]
    exact Nat.le_refl _
theorem sb_len (t : String) : (stringBytes (stringToUtf16 t)).size ≤ 4 * t.length := by
  have h1 := sb_size (stringToUtf16 t)
  have h2 : (stringToUtf16 t).size ≤ (#[] : Array UInt16).size + 2 * t.toList.length := sb_units t.toList #[]
  have h3 : t.toList.length = t.length := String.length_toList
  have h4 : (#[] : Array UInt16).size = 0 := rfl
  omega
theorem tx_ne {c : Char} {r : String} (h : c ≠ '\u0000') : ((String.singleton c ++ r) == notModelled) = false := by
  apply beq_false_of_ne
  intro e
  have e1 := congrArg String.toList e
  rw [String.toList_append] at e1
  have e2 : notModelled.toList = '\u0000' :: " a message that is not modelled".toList := by decide +kernel
  have e3 : (String.singleton c).toList = [c] := String.toList_singleton c
  rw [e2, e3] at e1
  exact h (List.head_eq_of_cons_eq e1)
theorem len_int (i : Int32) : (toString i : String).length ≤ 11 := by
  have h1 := Int32.le_toInt i
  have h2 := Int32.toInt_lt i
  show (toString i.toInt : String).length ≤ 11
  cases h : i.toInt with
  | ofNat m =>
    show (Nat.repr m).length ≤ 11
    rw [h] at h2
    exact (Nat.length_repr_le_iff (by decide)).mpr (by have : (Int.ofNat m) = (m : Int) := rfl; omega)
  | negSucc m =>
    show ("-" ++ Nat.repr (m + 1)).length ≤ 11
    rw [String.length_append]
    rw [h] at h1
    have : (Nat.repr (m + 1)).length ≤ 10 := (Nat.length_repr_le_iff (by decide)).mpr (by omega)
    have : ("-" : String).length = 1 := rfl
    omega
theorem len_nat {n : Nat} (h : n ≤ 1000000) : (toString n : String).length ≤ 7 := by
  show (Nat.repr n).length ≤ 7
  exact (Nat.length_repr_le_iff (by decide)).mpr (by omega)
section SNV
variable {p : Program} {l : Launch} {e : Env} {R : Room} {s : State} {m : MethodId} {args : Array Value} {below : List Frame} {meth : Method} {c : Code} {cells slots : Nat} {Q : State → Prop} {cc : ByteArray} {D : va_G} {dA : Nat → Nat} {md : Bool} {z0 : Nat} {nL : Nat} {ad : Nat → Nat} {pc len : Nat} {L : Lo} {st r : List Value} {σ : Sg} {H : Heap} {locs : List Loc} {ls : Array Slot}
theorem sn_vmx {E tx : String} {names : List String} {ec : Nat} (hx : p.tables.exec = Jvm.exec) (hl : l.stackTraces = false) (hE : E = XN ec) (hec : 2 < ec) (hcls : Bundle.fit E = true) (hnames : ∀ n ∈ names, Bundle.fit n = true) (hsoe : (E == "java/lang/StackOverflowError") = false) (hoom : (E == "java/lang/OutOfMemoryError") = false) (hat : ∀ w ∈ vx_atM E names, w ∈ lw_all ∨ (w ∈ lw_tbl ∧ nwWord w = true)) (hgood : ∀ w ∈ vx_atM E names, vx_ot w = true) (hlen : names.length ≤ 3) (ht : ∀ w ∈ lw_all, w.before args s = true) (hN : NWs s) (hS : SXc z0 ad s s.heap) (htext : (tx == notModelled) = false) (hnb : tx.length ≤ 250) (hlocks : meth.locks = false) (hml : c.maxLocals = nL) (hRf : 20 ≤ R.frames) (hRl : 10500 ≤ R.locals) (hcR : cells + 3 ≤ R.cells) (hsR : slots + 3000 ≤ R.slots) (hwd : am_wd r ≤ 10)
    (hW : WO D dA md (AA z0) s ad σ H locs) (hL : lvR ad L ls nL) (hV : VOK σ L r) (k : XL p l e R s m args below meth c D dA md (AA z0) nL (cells + 3) (slots + 3000) Q ad pc L r ec 0 σ) : vx_Note p l e R s m args below meth c H locs cells slots Q (F0 m pc ls (r.map (mv ad))) E tx := by
  have hnb1 : (stringBytes (stringToUtf16 tx)).size ≤ 1000 := Nat.le_trans (sb_len tx) (by omega)
  refine vx_vm (A := AA z0) (nb := 1000) hx hl hcls hnames hsoe hoom (fun w hw => atW ht hN (hat w hw)) hgood hS.2.2.1.1 hS.2.2.1.2.1 hW.2.2.1 (hL.2.1.trans hml.symm) htext hnb1 (Nat.le_refl _) (by omega) (by rw [wd_map]; omega) (by omega) hcR (by omega) hlocks ?_
  intro H1 q9 ce h1 h2 h3 h4 h5 h6
  exact vx_widen (Nat.le_refl _) (by omega) (k H1 locs ls ce q9 ⟨hW.1.kept (fun i q hq => h2 _ (vx_lt hW.1 hq)), hW.2.1, h3, hW.2.2.2⟩ hL hV (fun h => absurd h (by omega)) h4 h5 (by rw [← hE]; exact h6))
theorem atG3 : ∀ w ∈ vx_atM "java/lang/ArrayIndexOutOfBoundsException" ["java/lang/IndexOutOfBoundsException", "java/lang/RuntimeException", "java/lang/Exception"], vx_ot w = true := by decide +kernel
theorem atG4 : ∀ w ∈ vx_atM "java/lang/ClassCastException" ["java/lang/RuntimeException", "java/lang/Exception"], vx_ot w = true := by decide +kernel
theorem sn_baldx {i : Int32} {b : Nat} (hx : p.tables.exec = Jvm.exec) (hb : c.code = cc) (hl : l.stackTraces = false) (hK : va_K D CL (TYS dA) s) (ht : ∀ w ∈ lw_all, w.before args s = true) (hN : NWs s) (hS : SXc z0 ad s s.heap) (hlocks : meth.locks = false) (hml : c.maxLocals = nL) (hd : decode cc pc = .ok (.baload, 1)) (hk : (kdT md σ b).1 = 3) (hi : ¬ inb i (kdT md σ b).2) (hn : (kdT md σ b).2 ≤ 1000000) (hwd : am_wd r ≤ 8) (hRf : 20 ≤ R.frames) (hRl : 10500 ≤ R.locals) (hcR : cells + 3 ≤ R.cells) (hsR : slots + 3000 ≤ R.slots)
    (k : XL p l e R s m args below meth c D dA md (AA z0) nL (cells + 3) (slots + 3000) Q ad pc L r 3 0 σ) : GL p l e R s m args below meth c D dA md (AA z0) nL cells slots Q ad pc L (.int i :: .ref b :: r) σ := by
  intro H locs ls hW hL hV
  have ha := hW.2.2.2.lt (a := b) (by omega)
  refine vx_baldZ hx hb hK hW.1 b 2 ((e_at ha).trans (by rw [e_3 hk])) rfl (fun h => hi ?_) hd (fun tx htx => ?_)
  · unfold vp_in at h
    refine ⟨fun q => h (Or.inl q), ?_⟩
    rcases Nat.lt_or_ge i.toNatClampNeg (kdT md σ b).2 with q | q
    · exact q
    · exact absurd (Or.inr q) h
  · subst htx
    refine sn_vmx (ec := 3) (names := ["java/lang/IndexOutOfBoundsException", "java/lang/RuntimeException", "java/lang/Exception"]) hx hl rfl (by omega) (by decide +kernel) (by decide +kernel) (by decide +kernel) (by decide +kernel) atM3 atG3 (by decide) ht hN hS ?_ ?_ hlocks hml hRf hRl hcR hsR (by omega) hW hL ⟨fq2 hV.1, hV.2⟩ k
    · have e : (toString "Index " ++ toString i ++ toString " out of bounds for length " ++ toString (kdT md σ b).2 : String) = String.singleton 'I' ++ ("ndex " ++ toString i ++ " out of bounds for length " ++ toString (kdT md σ b).2) := by
        have e0 : (toString "Index " : String) = String.singleton 'I' ++ "ndex " := by decide +kernel
        rw [e0, String.append_assoc, String.append_assoc, String.append_assoc, String.append_assoc, String.append_assoc]
        rfl
      rw [e]
      exact tx_ne (by decide)
    · rw [String.length_append, String.length_append, String.length_append]
      have h1 := len_int i
      have h2 := len_nat hn
      have h3 : (toString "Index " : String).length = 6 := by decide +kernel
      have h4 : (toString " out of bounds for length " : String).length = 26 := by decide +kernel
      omega
end SNV
/-! a cast that fails -/
theorem cast_out {p : Program} {l : Launch} {e : Env} {R : Room} {s T : State} {m : MethodId} {args : Array Value} {below : List Frame} {meth : Method} {c : Code} {locs : List Loc} {cells slots : Nat} (X : Stand p l e R s m args below meth c T locs cells slots) (hexec : p.tables.exec = Jvm.exec) {own name : String} {index : Nat} (hown : s.vm.findClass own = some m.cls) (hlink : (Cond.classLink own index name).before args s = true)
    {a : Addr} {cell : Cell} {cT : ClassId} {ks : Class} (hcell : T.heap[a]? = some cell) (hobj : ∀ k, cell.vm ≠ .statics k) (hks : s.vm.classes[cell.cls]? = some ks) (hcT : s.vm.findClass name = some cT) (hasg : s.vm.assignable cell.cls cT = false)
    {g : JFrame} (hg : g.method = m) {rest : List Value} (hstack : g.stack = .ref a :: rest) (hdg : decode c.code g.pc = .ok (.checkcast index, 3)) :
    ∃ (vm' : Vm) (ks' kt' : Class), Stand p l e R s m args below meth c (T.setVm vm') locs cells slots ∧ s.WarmedH vm' ∧ vm'.classes[cell.cls]? = some ks' ∧ vm'.classes[cT]? = some kt' ∧
      ∀ target, Steps p.tables e below (((T.setVm vm').setTop g).pushFrame (.throwNew "java/lang/ClassCastException" (some (Jvm.Op.checkcast.message vm' ks' kt')) none)) target → Steps p.tables e below (T.setTop g) target := by
  have hpl : e.platform.magicAccessors = ({} : Platform).magicAccessors := by rw [X.admits.platform]
  obtain ⟨c', hc', hcl⟩ := Cond.classLink_spec hown hlink e.platform hpl
  cases hcT.symm.trans hc'
  obtain ⟨dk, _, _, kt, hd, _, _, _, _, hkt, _, hopen⟩ := hcl.here
  have hcl₀ := X.warmed.classLinks hcl
  have hW' : s.WarmedH (T.vm.noted m.cls index (.cls cT)) := X.warmed.noted hd hopen (State.rightAt_cls hcl)
  obtain ⟨ks', hks', -⟩ := hW'.alike.2.2 _ _ hks
  obtain ⟨kt', hkt', -⟩ := hW'.alike.2.2 _ _ hkt
  refine ⟨_, ks', kt', X.noted hW', hW', hks', hkt', fun target hrest => ?_⟩
  subst hg
  jvm_step X.here [hexec, hdg, checkcast.wp_cold (e := e) (s := T) (f := g) X.here.top hstack (resolveClass_links e.toSetting hcl₀) hcl₀.ready,
    checkcast.wp_ready (e := e) (s := T.setVm (T.vm.noted g.method.cls index (.cls cT))) (f := g) X.here.top hcl₀.ready hstack]
  refine ⟨cell, hcell, hobj, ks', hks', kt', hkt', ?_⟩
  rw [if_neg (by rw [hW'.alike.assignable, hasg]; decide)]
  exact hrest
/-- a class found by its name lies with the bootstrap loader -/
theorem fc_boot {vm : Vm} {name : String} {c : ClassId} {k : Class} (h : vm.findClass name = some c) (hk : vm.classes[c]? = some k) : k.name = name ∧ k.hidden = none ∧ k.loader = none := by
  obtain ⟨hlt, hp, _⟩ := Array.findIdx?_eq_some_iff_getElem.mp h
  have e : vm.classes[c] = k := by
    rw [Array.getElem?_eq_getElem hlt] at hk
    exact Option.some.inj hk
  rw [e] at hp
  simp only [Bool.and_eq_true, beq_iff_eq] at hp
  exact ⟨hp.1.1.1, Option.isNone_iff_eq_none.mp hp.1.1.2, Option.isNone_iff_eq_none.mp hp.2⟩
theorem turned_len (a b : Char) (x : String) : (turned a b x).length = x.length := by
  unfold turned
  rw [String.length_ofList, List.length_map, String.length_toList]
theorem shown_len {k : Class} (h : k.hidden = none) : k.shown.length = k.name.length := by
  unfold Class.shown
  rw [h]
  exact turned_len _ _ _
theorem mod_name {U : State} {k : Class} {mi : ModuleInfo} (hM : modulesRight_1 U = true) (hl : k.loader = none) (hp : packageOf k.name = "") (h : U.vm.moduleOf k = some mi) : mi.name = "java.base" := by
  unfold Vm.moduleOf at h
  split at h
  · have h1 := List.find?_some h
    simpa using h1
  · have h1 : (mi.loader == k.loader && mi.packages.contains (packageOf k.name)) = true := by
      have := List.find?_some h
      exact this
    have h2 : mi ∈ U.vm.modules := List.mem_of_find?_eq_some h
    have h3 := List.all_eq_true.mp hM mi h2
    rw [hl, hp] at h1
    simp only [Bool.and_eq_true, beq_iff_eq] at h1
    rw [h1.1] at h3
    simp only [Option.isSome_none, Bool.false_or, Bool.or_eq_true, beq_iff_eq, Bool.not_eq_true'] at h3
    rcases h3 with h3 | h3
    · exact h3
    · exfalso
      have h4 : (castPackages_1.any fun p => mi.packages.contains p) = true := by
        rw [List.any_eq_true]
        exact ⟨"", List.mem_cons_self, h1.2⟩
      rw [h4] at h3
      cases h3
theorem home_len {U : State} {k : Class} (hM : modulesRight_1 U = true) (hl : k.loader = none) (hp : packageOf k.name = "") : (U.vm.home k).length ≤ 45 := by
  unfold Vm.home
  rw [hl]
  have e1 : U.vm.loaderName none = "'bootstrap'" := rfl
  rw [e1]
  cases hm : U.vm.moduleOf k with
  | none =>
    show ("unnamed module" ++ " of loader " ++ "'bootstrap'").length ≤ 45
    decide +kernel
  | some mi =>
    show ("module " ++ mi.name ++ " of loader " ++ "'bootstrap'").length ≤ 45
    rw [mod_name hM hl hp hm]
    decide +kernel
theorem msg_len {U : State} {ks kt : Class} (hM : modulesRight_1 U = true) (h1 : ks.hidden = none ∧ ks.loader = none ∧ packageOf ks.name = "" ∧ ks.name.length ≤ 18) (h2 : kt.hidden = none ∧ kt.loader = none ∧ packageOf kt.name = "" ∧ kt.name.length ≤ 18) : (Jvm.Op.checkcast.message U.vm ks kt).length ≤ 250 := by
  have s1 := shown_len h1.1
  have s2 := shown_len h2.1
  have g1 := home_len hM h1.2.1 h1.2.2.1
  have g2 := home_len hM h2.2.1 h2.2.2.1
  have hh : (U.vm.homes ks kt).length ≤ 142 := by
    unfold Vm.homes
    split
    · show (toString ks.shown ++ toString " and " ++ toString kt.shown ++ toString " are in " ++ toString (U.vm.home ks) : String).length ≤ 142
      simp only [String.length_append]
      have a1 : (toString " and " : String).length = 5 := by decide +kernel
      have a2 : (toString " are in " : String).length = 8 := by decide +kernel
      have a3 : (toString ks.shown : String).length = ks.shown.length := rfl
      have a4 : (toString kt.shown : String).length = kt.shown.length := rfl
      have a5 : (toString (U.vm.home ks) : String).length = (U.vm.home ks).length := rfl
      omega
    · show (toString ks.shown ++ toString " is in " ++ toString (U.vm.home ks) ++ toString "; " ++ toString kt.shown ++ toString " is in " ++ toString (U.vm.home kt) : String).length ≤ 142
      simp only [String.length_append]
      have a1 : (toString " is in " : String).length = 7 := by decide +kernel
      have a2 : (toString "; " : String).length = 2 := by decide +kernel
      have a3 : (toString ks.shown : String).length = ks.shown.length := rfl
      have a4 : (toString kt.shown : String).length = kt.shown.length := rfl
      have a5 : (toString (U.vm.home ks) : String).length = (U.vm.home ks).length := rfl
      have a6 : (toString (U.vm.home kt) : String).length = (U.vm.home kt).length := rfl
      omega
  show (toString "class " ++ toString ks.shown ++ toString " cannot be cast to class " ++ toString kt.shown ++ toString " (" ++ toString (U.vm.homes ks kt) ++ toString ")" : String).length ≤ 250
  simp only [String.length_append]
  have a1 : (toString "class " : String).length = 6 := by decide +kernel
  have a2 : (toString " cannot be cast to class " : String).length = 25 := by decide +kernel
  have a6 : (toString " (" : String).length = 2 := by decide +kernel
  have a7 : (toString ")" : String).length = 1 := by decide +kernel
  have a3 : (toString ks.shown : String).length = ks.shown.length := rfl
  have a4 : (toString kt.shown : String).length = kt.shown.length := rfl
  have a5 : (toString (U.vm.homes ks kt) : String).length = (U.vm.homes ks kt).length := rfl
  omega
theorem msg_ne {vm : Vm} {ks kt : Class} : ((Jvm.Op.checkcast.message vm ks kt) == notModelled) = false := by
  have e : Jvm.Op.checkcast.message vm ks kt = String.singleton 'c' ++ ("lass " ++ toString ks.shown ++ " cannot be cast to class " ++ toString kt.shown ++ " (" ++ toString (vm.homes ks kt) ++ ")") := by
    show (toString "class " ++ toString ks.shown ++ toString " cannot be cast to class " ++ toString kt.shown ++ toString " (" ++ toString (vm.homes ks kt) ++ toString ")" : String) = _
    have e0 : (toString "class " : String) = String.singleton 'c' ++ "lass " := by decide +kernel
    rw [e0]
    simp only [String.append_assoc]
    rfl
  rw [e]
  exact tx_ne (by decide)
def CN (c : Nat) : String := match c with
  | 17 => "OldWeather$Word"
  | 18 => "OldWeather$Gauge"
  | 19 => "OldWeather$Log"
  | 20 => "OldWeather$Proxy"
  | _ => "OldWeather$Copied"
theorem CN_ok {c : Nat} (h : 17 ≤ c ∧ c ≤ 21) {q : vw_C} (hq : CL[c - 10]? = some q) : q.1 = CN c ∧ packageOf (CN c) = "" ∧ (CN c).length ≤ 18 := by
  have h1 : c = 17 ∨ c = 18 ∨ c = 19 ∨ c = 20 ∨ c = 21 := by omega
  rcases h1 with rfl | rfl | rfl | rfl | rfl <;> (cases hq; exact ⟨rfl, by decide +kernel, by decide +kernel⟩)
def CKX (own : String) (i : Nat) (cs : List Nat) : Prop := ∃ nm, Cond.classLink own i nm ∈ lw_all ∧ packageOf nm = "" ∧ nm.length ≤ 18 ∧ ∀ c ∈ [17, 18, 19, 20, 21], cs.elem c = false → (CN c, nm) ∈ NCL
section SNV2
variable {p : Program} {l : Launch} {e : Env} {R : Room} {s : State} {m : MethodId} {args : Array Value} {below : List Frame} {meth : Method} {c : Code} {cells slots : Nat} {Q : State → Prop} {cc : ByteArray} {D : va_G} {dA : Nat → Nat} {md : Bool} {z0 : Nat} {nL : Nat} {ad : Nat → Nat} {pc len : Nat} {L : Lo} {st r : List Value} {σ : Sg} {own : String}
theorem sn_castx {i b : Nat} {cs : List Nat} (hx : p.tables.exec = Jvm.exec) (hb : c.code = cc) (hl : l.stackTraces = false) (hK : va_K D CL (TYS dA) s) (ht : ∀ w ∈ lw_all, w.before args s = true) (hN : NWs s) (hS : SXc z0 ad s s.heap) (hown : s.vm.findClass own = some m.cls) (hC : CKX own i cs) (hlocks : meth.locks = false) (hml : c.maxLocals = nL) (hd : decode cc pc = .ok (.checkcast i, 3)) (hk : 17 ≤ (kdT md σ b).1 ∧ (kdT md σ b).1 ≤ 21) (hcs : ¬ cs.elem (kdT md σ b).1 = true) (hwd : am_wd r ≤ 8) (hRf : 20 ≤ R.frames) (hRl : 10500 ≤ R.locals) (hcR : cells + 3 ≤ R.cells) (hsR : slots + 3000 ≤ R.slots)
    (k : XL p l e R s m args below meth c D dA md (AA z0) nL (cells + 3) (slots + 3000) Q ad pc L (.ref b :: r) 4 0 σ) : GL p l e R s m args below meth c D dA md (AA z0) nL cells slots Q ad pc L (.ref b :: r) σ := by
  intro H locs ls hW hL hV
  have ha := hW.2.2.2.lt (a := b) (by omega)
  obtain ⟨nm, hlk, hpk, hln, hall⟩ := hC
  obtain ⟨r', h2, cell, q1, q2, q3, q4⟩ := hW.1 b _ ((e_at ha).trans (by rw [e_o (by omega)]))
  have hcl := (hK.1 _ _ h2).2.1
  obtain ⟨hr1, hr2, hr3⟩ := CN_ok hk h2
  have hmem : (kdT md σ b).1 ∈ [17, 18, 19, 20, 21] := by
    have h1 : (kdT md σ b).1 = 17 ∨ (kdT md σ b).1 = 18 ∨ (kdT md σ b).1 = 19 ∨ (kdT md σ b).1 = 20 ∨ (kdT md σ b).1 = 21 := by omega
    simp only [List.mem_cons, List.not_mem_nil, or_false]
    exact h1
  obtain ⟨c0, t0, n1, n2, n3⟩ := hS.2.2.2.2.1 _ (hall _ hmem (by simpa using hcs))
  dsimp only at n1 n2
  rw [hr1] at hcl
  have hc0 : cell.cls = c0 := q2.trans (Option.some.inj (hcl.symm.trans n1))
  obtain ⟨ks, hks, hkn⟩ := Vm.findClass_spec n1
  intro T hT X
  obtain ⟨vm', ks', kt', X', hW', hks', hkt', stp⟩ := cast_out X hx hown (ht _ hlk) (a := ad b) (cell := cell) (cT := t0) (ks := ks) (by rw [hT]; exact q1) (fun k h => by rw [q3] at h; cases h) (by rw [hc0]; exact hks) n2 (by rw [hc0]; exact n3) (g := F0 m pc ls (.ref (ad b) :: r.map (mv ad))) rfl rfl (by rw [hb]; exact hd)
  have hM : modulesRight_1 (s.setVm vm') = true := (TBX.warm (ad := ad) (u := s) (U := s.setVm vm') hW' hS.2.2.2).2.2.1
  have f1 := fc_boot (vm := vm') (by rw [hW'.alike.findClass]; exact n1) (by rw [hc0] at hks'; exact hks')
  have f2 := fc_boot (vm := vm') (by rw [hW'.alike.findClass]; exact n2) hkt'
  obtain ⟨t, a1, b1⟩ := sn_vmx (r := .ref b :: r) (ec := 4) (names := ["java/lang/RuntimeException", "java/lang/Exception"]) (E := "java/lang/ClassCastException") (tx := Jvm.Op.checkcast.message vm' ks' kt') hx hl rfl (by omega) (by decide +kernel) (by decide +kernel) (by decide +kernel) (by decide +kernel) atM4 atG4 (by decide) ht hN hS msg_ne
    (msg_len (U := s.setVm vm') hM ⟨f1.2.1, f1.2.2, by rw [f1.1]; exact hr2, by rw [f1.1]; exact hr3⟩ ⟨f2.2.1, f2.2.2, by rw [f2.1]; exact hpk, by rw [f2.1]; exact hln⟩) hlocks hml hRf hRl hcR hsR (by show (Value.ref b).category + am_wd r ≤ 10; have : (Value.ref b).category = 1 := rfl; omega) hW hL hV k (T.setVm vm') hT X'
  exact ⟨t, stp t a1, b1⟩
end SNV2
theorem cx_0 : ∀ q ∈ ([] : List (Nat × (List Nat × Bool))), (q.2.2 = true → CKX (ownS 0) q.1 q.2.1) := (fun _ h => nomatch h)
theorem cx_1 : ∀ q ∈ ([] : List (Nat × (List Nat × Bool))), (q.2.2 = true → CKX (ownS 1) q.1 q.2.1) := (fun _ h => nomatch h)
theorem cx_2 : ∀ q ∈ ([] : List (Nat × (List Nat × Bool))), (q.2.2 = true → CKX (ownS 2) q.1 q.2.1) := (fun _ h => nomatch h)
theorem cx_3 : ∀ q ∈ ([] : List (Nat × (List Nat × Bool))), (q.2.2 = true → CKX (ownS 3) q.1 q.2.1) := (fun _ h => nomatch h)
theorem cx_4 : ∀ q ∈ ([] : List (Nat × (List Nat × Bool))), (q.2.2 = true → CKX (ownS 4) q.1 q.2.1) := (fun _ h => nomatch h)
theorem cx_5 : ∀ q ∈ ([] : List (Nat × (List Nat × Bool))), (q.2.2 = true → CKX (ownS 5) q.1 q.2.1) := (fun _ h => nomatch h)
theorem cx_6 : ∀ q ∈ ([] : List (Nat × (List Nat × Bool))), (q.2.2 = true → CKX (ownS 6) q.1 q.2.1) := (fun _ h => nomatch h)
theorem cx_7 : ∀ q ∈ ([] : List (Nat × (List Nat × Bool))), (q.2.2 = true → CKX (ownS 7) q.1 q.2.1) := (fun _ h => nomatch h)
theorem cx_8 : ∀ q ∈ ([] : List (Nat × (List Nat × Bool))), (q.2.2 = true → CKX (ownS 8) q.1 q.2.1) := (fun _ h => nomatch h)
theorem cx_9 : ∀ q ∈ ([] : List (Nat × (List Nat × Bool))), (q.2.2 = true → CKX (ownS 9) q.1 q.2.1) := (fun _ h => nomatch h)
theorem cx_10 : ∀ q ∈ ([] : List (Nat × (List Nat × Bool))), (q.2.2 = true → CKX (ownS 10) q.1 q.2.1) := (fun _ h => nomatch h)
theorem cx_11 : ∀ q ∈ ([] : List (Nat × (List Nat × Bool))), (q.2.2 = true → CKX (ownS 11) q.1 q.2.1) := (fun _ h => nomatch h)
theorem cx_12 : ∀ q ∈ ([] : List (Nat × (List Nat × Bool))), (q.2.2 = true → CKX (ownS 12) q.1 q.2.1) := (fun _ h => nomatch h)
theorem cx_13 : ∀ q ∈ ([] : List (Nat × (List Nat × Bool))), (q.2.2 = true → CKX (ownS 13) q.1 q.2.1) := (fun _ h => nomatch h)
theorem cx_14 : ∀ q ∈ ([] : List (Nat × (List Nat × Bool))), (q.2.2 = true → CKX (ownS 14) q.1 q.2.1) := (fun _ h => nomatch h)
theorem cx_15 : ∀ q ∈ ([] : List (Nat × (List Nat × Bool))), (q.2.2 = true → CKX (ownS 15) q.1 q.2.1) := (fun _ h => nomatch h)
theorem cx_16 : ∀ q ∈ ([] : List (Nat × (List Nat × Bool))), (q.2.2 = true → CKX (ownS 16) q.1 q.2.1) := (fun _ h => nomatch h)
theorem cx_17 : ∀ q ∈ ([] : List (Nat × (List Nat × Bool))), (q.2.2 = true → CKX (ownS 17) q.1 q.2.1) := (fun _ h => nomatch h)
theorem cx_18 : ∀ q ∈ ([] : List (Nat × (List Nat × Bool))), (q.2.2 = true → CKX (ownS 18) q.1 q.2.1) := (fun _ h => nomatch h)
theorem cx_19 : ∀ q ∈ ([] : List (Nat × (List Nat × Bool))), (q.2.2 = true → CKX (ownS 19) q.1 q.2.1) := (fun _ h => nomatch h)
theorem cx_20 : ∀ q ∈ ([(228, ([17, 18, 19, 20, 21], false)), (243, ([17, 19], true)), (252, ([18], true)), (255, ([19], true)), (258, ([20], true)), (266, ([21], true)), (349, ([34], false)), (381, ([26], false)), (493, ([35], false))] : List (Nat × (List Nat × Bool))), (q.2.2 = true → CKX (ownS 20) q.1 q.2.1) := (List.forall_mem_cons.mpr ⟨(fun h => nomatch h), (List.forall_mem_cons.mpr ⟨(fun _ => ⟨"OldWeather$Word", q906, by decide +kernel, by decide +kernel, by decide +kernel⟩), (List.forall_mem_cons.mpr ⟨(fun _ => ⟨"OldWeather$Gauge", q972, by decide +kernel, by decide +kernel, by decide +kernel⟩), (List.forall_mem_cons.mpr ⟨(fun _ => ⟨"OldWeather$Log", q989, by decide +kernel, by decide +kernel, by decide +kernel⟩), (List.forall_mem_cons.mpr ⟨(fun _ => ⟨"OldWeather$Proxy", q1006, by decide +kernel, by decide +kernel, by decide +kernel⟩), (List.forall_mem_cons.mpr ⟨(fun _ => ⟨"OldWeather$Copied", q1031, by decide +kernel, by decide +kernel, by decide +kernel⟩), (List.forall_mem_cons.mpr ⟨(fun h => nomatch h), (List.forall_mem_cons.mpr ⟨(fun h => nomatch h), (List.forall_mem_cons.mpr ⟨(fun h => nomatch h), (fun _ h => nomatch h)⟩)⟩)⟩)⟩)⟩)⟩)⟩)⟩)⟩)
theorem cx_21 : ∀ q ∈ ([] : List (Nat × (List Nat × Bool))), (q.2.2 = true → CKX (ownS 21) q.1 q.2.1) := (fun _ h => nomatch h)
theorem cx_22 : ∀ q ∈ ([] : List (Nat × (List Nat × Bool))), (q.2.2 = true → CKX (ownS 22) q.1 q.2.1) := (fun _ h => nomatch h)
theorem cx_23 : ∀ q ∈ ([] : List (Nat × (List Nat × Bool))), (q.2.2 = true → CKX (ownS 23) q.1 q.2.1) := (fun _ h => nomatch h)
theorem cx_24 : ∀ q ∈ ([] : List (Nat × (List Nat × Bool))), (q.2.2 = true → CKX (ownS 24) q.1 q.2.1) := (fun _ h => nomatch h)
theorem cx_25 : ∀ q ∈ ([] : List (Nat × (List Nat × Bool))), (q.2.2 = true → CKX (ownS 25) q.1 q.2.1) := (fun _ h => nomatch h)
theorem cx_26 : ∀ q ∈ ([] : List (Nat × (List Nat × Bool))), (q.2.2 = true → CKX (ownS 26) q.1 q.2.1) := (fun _ h => nomatch h)
theorem cx_27 : ∀ q ∈ ([] : List (Nat × (List Nat × Bool))), (q.2.2 = true → CKX (ownS 27) q.1 q.2.1) := (fun _ h => nomatch h)
theorem cx_28 : ∀ q ∈ ([] : List (Nat × (List Nat × Bool))), (q.2.2 = true → CKX (ownS 28) q.1 q.2.1) := (fun _ h => nomatch h)
theorem cx_29 : ∀ q ∈ ([] : List (Nat × (List Nat × Bool))), (q.2.2 = true → CKX (ownS 29) q.1 q.2.1) := (fun _ h => nomatch h)
theorem cx_30 : ∀ q ∈ ([] : List (Nat × (List Nat × Bool))), (q.2.2 = true → CKX (ownS 30) q.1 q.2.1) := (fun _ h => nomatch h)
theorem cx_31 : ∀ q ∈ ([] : List (Nat × (List Nat × Bool))), (q.2.2 = true → CKX (ownS 31) q.1 q.2.1) := (fun _ h => nomatch h)
theorem cx_32 : ∀ q ∈ ([(50, ([34], false)), (68, ([26], false))] : List (Nat × (List Nat × Bool))), (q.2.2 = true → CKX (ownS 32) q.1 q.2.1) := (List.forall_mem_cons.mpr ⟨(fun h => nomatch h), (List.forall_mem_cons.mpr ⟨(fun h => nomatch h), (fun _ h => nomatch h)⟩)⟩)
theorem cx_33 : ∀ q ∈ ([] : List (Nat × (List Nat × Bool))), (q.2.2 = true → CKX (ownS 33) q.1 q.2.1) := (fun _ h => nomatch h)
theorem cx_34 : ∀ q ∈ ([] : List (Nat × (List Nat × Bool))), (q.2.2 = true → CKX (ownS 34) q.1 q.2.1) := (fun _ h => nomatch h)
theorem cx_35 : ∀ q ∈ ([] : List (Nat × (List Nat × Bool))), (q.2.2 = true → CKX (ownS 35) q.1 q.2.1) := (fun _ h => nomatch h)
theorem cx_36 : ∀ q ∈ ([] : List (Nat × (List Nat × Bool))), (q.2.2 = true → CKX (ownS 36) q.1 q.2.1) := (fun _ h => nomatch h)
theorem cx_37 : ∀ q ∈ ([] : List (Nat × (List Nat × Bool))), (q.2.2 = true → CKX (ownS 37) q.1 q.2.1) := (fun _ h => nomatch h)
theorem cx_38 : ∀ q ∈ ([] : List (Nat × (List Nat × Bool))), (q.2.2 = true → CKX (ownS 38) q.1 q.2.1) := (fun _ h => nomatch h)
theorem cx_39 : ∀ q ∈ ([(2, ([31, 32, 33], false))] : List (Nat × (List Nat × Bool))), (q.2.2 = true → CKX (ownS 39) q.1 q.2.1) := (List.forall_mem_cons.mpr ⟨(fun h => nomatch h), (fun _ h => nomatch h)⟩)
theorem cx_40 : ∀ q ∈ ([] : List (Nat × (List Nat × Bool))), (q.2.2 = true → CKX (ownS 40) q.1 q.2.1) := (fun _ h => nomatch h)
theorem cx_41 : ∀ q ∈ ([] : List (Nat × (List Nat × Bool))), (q.2.2 = true → CKX (ownS 41) q.1 q.2.1) := (fun _ h => nomatch h)
theorem cx_42 : ∀ q ∈ ([] : List (Nat × (List Nat × Bool))), (q.2.2 = true → CKX (ownS 42) q.1 q.2.1) := (fun _ h => nomatch h)
theorem cx_43 : ∀ q ∈ ([] : List (Nat × (List Nat × Bool))), (q.2.2 = true → CKX (ownS 43) q.1 q.2.1) := (fun _ h => nomatch h)
theorem cx_44 : ∀ q ∈ ([] : List (Nat × (List Nat × Bool))), (q.2.2 = true → CKX (ownS 44) q.1 q.2.1) := (fun _ h => nomatch h)
theorem cx_45 : ∀ q ∈ ([(60, ([17, 18, 19, 20, 21], false))] : List (Nat × (List Nat × Bool))), (q.2.2 = true → CKX (ownS 45) q.1 q.2.1) := (List.forall_mem_cons.mpr ⟨(fun h => nomatch h), (fun _ h => nomatch h)⟩)
theorem cx_46 : ∀ q ∈ ([(146, ([35], false)), (160, ([17, 18, 19, 20, 21], false))] : List (Nat × (List Nat × Bool))), (q.2.2 = true → CKX (ownS 46) q.1 q.2.1) := (List.forall_mem_cons.mpr ⟨(fun h => nomatch h), (List.forall_mem_cons.mpr ⟨(fun h => nomatch h), (fun _ h => nomatch h)⟩)⟩)
theorem cx_47 : ∀ q ∈ ([] : List (Nat × (List Nat × Bool))), (q.2.2 = true → CKX (ownS 47) q.1 q.2.1) := (fun _ h => nomatch h)
theorem cx_48 : ∀ q ∈ ([] : List (Nat × (List Nat × Bool))), (q.2.2 = true → CKX (ownS 48) q.1 q.2.1) := (fun _ h => nomatch h)
theorem cx_49 : ∀ q ∈ ([] : List (Nat × (List Nat × Bool))), (q.2.2 = true → CKX (ownS 49) q.1 q.2.1) := (fun _ h => nomatch h)
theorem lkC_x {o i : Nat} {r : _} (h : am_tb lkC o i = some r) : r.2 = true → CKX (ownS o) i r.1 := rows_ok (P := fun o i r => r.2 = true → CKX (ownS o) i r.1) (T := lkC) ⟨cx_0, cx_1, cx_2, cx_3, cx_4, cx_5, cx_6, cx_7, cx_8, cx_9, cx_10, cx_11, cx_12, cx_13, cx_14, cx_15, cx_16, cx_17, cx_18, cx_19, cx_20, cx_21, cx_22, cx_23, cx_24, cx_25, cx_26, cx_27, cx_28, cx_29, cx_30, cx_31, cx_32, cx_33, cx_34, cx_35, cx_36, cx_37, cx_38, cx_39, cx_40, cx_41, cx_42, cx_43, cx_44, cx_45, cx_46, cx_47, cx_48, cx_49, trivial⟩ h
