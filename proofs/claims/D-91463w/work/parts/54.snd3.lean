/-! SOUNDNESS 3: fields, new cells, lengths, casts -/
set_option maxRecDepth 100000
/-- words that stay, but are of no list -/
def nwWord : Cond → Bool
  | .fieldLinkNest .. => true
  | .methodLinkNest .. => true
  | .castable .. => true
  | .arrayOver (.object _) => true
  | .declares _ => true
  | _ => false
def NWs (U : State) : Prop := ∀ w ∈ lw_tbl, nwWord w = true → va_Nw w U
theorem NWs.warm {s U : State} (hW : s.WarmedH U.vm) (h : NWs s) : NWs U := by
  intro w hw hn
  have h1 := h w hw hn
  cases w <;> first | cases hn | skip
  case fieldLinkNest => exact va_Nw.warmF hW h1
  case methodLinkNest => exact va_Nw.warmM hW h1
  case castable => exact va_Nw.warmC hW h1
  case declares => exact va_Nw.warmD hW h1
  case arrayOver t => cases t <;> first | exact va_AO.moved (u := s) hW.alike h1 | cases hn
/-- a field's type by its number -/
def tyq (ty : Nat) (ds : String) : Prop := (ty = 0 ∧ parseFieldDescriptor ds = some .int) ∨ (ty = 1 ∧ parseFieldDescriptor ds = some .long) ∨ (ty = 2 ∧ ∃ f, parseFieldDescriptor ds = some f ∧ (narrow f .null = .null ∧ fits f .null = true) ∧ ∀ a, narrow f (.ref a) = .ref a ∧ fits f (.ref a) = true) ∨ (ty = 3 ∧ parseFieldDescriptor ds = some .boolean) ∨ (ty = 4 ∧ parseFieldDescriptor ds = some .byte) ∨ (ty = 5 ∧ parseFieldDescriptor ds = some .char)
def FC (own ref nm ds : String) (nest : Bool) (c k ty fin : Nat) : Prop := 10 ≤ c ∧ ∃ q : vw_C, CL[c - 10]? = some q ∧ k < q.2.2 ∧ (q.2.1 k).2.1 = nm ∧ (q.2.1 k).2.2.1 = ds ∧ ((q.2.1 k).1 = ref ∨ Cond.sameField ref (q.2.1 k).1 nm ds ∈ lw_all) ∧ (fin = 0 → (q.2.1 k).2.2.2 = false) ∧ (fin = 1 → (q.2.1 k).2.2.2 = true ∧ (q.2.1 k).1 = own ∧ nest = false) ∧ (e_f c)[k]? = some ty
def FL (own : String) (idx : Nat) (ref nm ds : String) (nest : Bool) : Prop := match nest with
  | true => ∃ host, Cond.fieldLinkNest own idx ref nm ds host ∈ lw_tbl
  | false => Cond.fieldLink own idx ref nm ds ∈ lw_all
def FOK (own : String) (idx k ty fin : Nat) (cs : List Nat) : Prop := ∃ ref nm ds nest, FL own idx ref nm ds nest ∧ tyq ty ds ∧ ∀ c ∈ cs, FC own ref nm ds nest c k ty fin
def CLS (q : vw_C) : Prop := (∀ w ∈ u_ws q.1 q.2.1 q.2.2, w ∈ lw_all) ∧ (∃ ty : Nat → FieldType, ∀ k, k < q.2.2 → parseFieldDescriptor (q.2.1 k).2.2.1 = some (ty k)) ∧ ∀ a, a < q.2.2 → ∀ b, b < q.2.2 → a ≠ b → (q.2.1 a).2.1 ≠ (q.2.1 b).2.1
theorem mapIdx_set {l : List Nat} {f g : Nat → Nat → Value} {k ty : Nat} {v : Value} (he : l[k]? = some ty) (hv : g k ty = v) (hne : ∀ j t, j ≠ k → g j t = f j t) : l.mapIdx g = (l.mapIdx f).set k v := by
  apply List.ext_getElem?
  intro j
  by_cases hj : k = j
  · subst hj
    rw [List.getElem?_set_self (by rw [List.length_mapIdx]; exact (List.getElem?_eq_some_iff.mp he).1), List.getElem?_mapIdx, he]
    exact congrArg some hv
  · rw [List.getElem?_set_ne hj, List.getElem?_mapIdx, List.getElem?_mapIdx]
    cases l[j]? with
    | none => rfl
    | some t => exact congrArg some (hne j t (Ne.symm hj))
theorem e_seti {ad dA : Nat → Nat} {md : Bool} {σ : Sg} {a k ty : Nat} {x : Int32} (hk : 10 ≤ (kdT md σ a).1) (he : (e_f (kdT md σ a).1)[k]? = some ty) (h1 : ty ≠ 1) (h2 : ty ≠ 2) : e_E ad dA md (wi σ a k x) a = .inr ((kdT md σ a).1 - 10, ((e_f (kdT md σ a).1).mapIdx (fun k t => e_v ad md σ a k t)).set k (.int x)) := by
  rw [e_o (σ := wi σ a k x) (show 10 ≤ (kdT md (wi σ a k x) a).1 from hk)]
  have : ((e_f (kdT md σ a).1).mapIdx (fun k1 t => e_v ad md (wi σ a k x) a k1 t)) = ((e_f (kdT md σ a).1).mapIdx (fun k t => e_v ad md σ a k t)).set k (.int x) := by
    refine mapIdx_set he ?_ (fun j t hj => ?_)
    · have : gi (wi σ a k x) a k = x := by rw [gi_wi]; exact if_pos rfl
      match ty, h1, h2 with
      | 0, _, _ => exact congrArg Value.int this
      | 1, h1, _ => exact absurd rfl h1
      | 2, _, h2 => exact absurd rfl h2
      | n + 3, _, _ => exact congrArg Value.int this
    · have : gi (wi σ a k x) a j = gi σ a j := by rw [gi_wi]; exact if_neg hj
      match t with
      | 0 => exact congrArg Value.int this
      | 1 => rfl
      | 2 => rfl
      | n + 3 => exact congrArg Value.int this
  exact congrArg (fun z => (Sum.inr ((kdT md σ a).1 - 10, z) : va_E)) this
theorem e_setl {ad dA : Nat → Nat} {md : Bool} {σ : Sg} {a k : Nat} {x : Int64} (hk : 10 ≤ (kdT md σ a).1) (he : (e_f (kdT md σ a).1)[k]? = some 1) : e_E ad dA md (wl σ a k x) a = .inr ((kdT md σ a).1 - 10, ((e_f (kdT md σ a).1).mapIdx (fun k t => e_v ad md σ a k t)).set k (.long x)) := by
  rw [e_o (σ := wl σ a k x) (show 10 ≤ (kdT md (wl σ a k x) a).1 from hk)]
  have : ((e_f (kdT md σ a).1).mapIdx (fun k1 t => e_v ad md (wl σ a k x) a k1 t)) = ((e_f (kdT md σ a).1).mapIdx (fun k t => e_v ad md σ a k t)).set k (.long x) := by
    refine mapIdx_set he ?_ (fun j t hj => ?_)
    · have : gl (wl σ a k x) a k = x := by rw [gl_wl]; exact if_pos rfl
      exact congrArg Value.long this
    · have : gl (wl σ a k x) a j = gl σ a j := by rw [gl_wl]; exact if_neg hj
      match t with
      | 0 => rfl
      | 1 => exact congrArg Value.long this
      | 2 => rfl
      | n + 3 => rfl
  exact congrArg (fun z => (Sum.inr ((kdT md σ a).1 - 10, z) : va_E)) this
theorem grT_wr {md : Bool} {σ : Sg} {a k : Nat} {x : Option Nat} (h : stT md a k = none) : grT md (wr σ a k x) a k = x := by
  unfold grT
  rw [h]
  show gr (wr σ a k x) a k = x
  rw [gr_wr]
  exact if_pos rfl
theorem grT_wr_ne {md : Bool} {σ : Sg} {a k j : Nat} {x : Option Nat} (hj : j ≠ k) : grT md (wr σ a k x) a j = grT md σ a j := by
  unfold grT
  have : gr (wr σ a k x) a j = gr σ a j := by rw [gr_wr]; exact if_neg hj
  rw [this]
theorem e_setr {ad dA : Nat → Nat} {md : Bool} {σ : Sg} {a k : Nat} {x : Option Nat} (hk : 10 ≤ (kdT md σ a).1) (he : (e_f (kdT md σ a).1)[k]? = some 2) (hs : stT md a k = none) : e_E ad dA md (wr σ a k x) a = .inr ((kdT md σ a).1 - 10, ((e_f (kdT md σ a).1).mapIdx (fun k t => e_v ad md σ a k t)).set k (va_rf (x.map ad))) := by
  rw [e_o (σ := wr σ a k x) (show 10 ≤ (kdT md (wr σ a k x) a).1 from hk)]
  have : ((e_f (kdT md σ a).1).mapIdx (fun k1 t => e_v ad md (wr σ a k x) a k1 t)) = ((e_f (kdT md σ a).1).mapIdx (fun k t => e_v ad md σ a k t)).set k (va_rf (x.map ad)) := by
    refine mapIdx_set he ?_ (fun j t hj => ?_)
    · show va_rf ((grT md (wr σ a k x) a k).map ad) = _
      rw [grT_wr hs]
    · match t with
      | 0 => rfl
      | 1 => rfl
      | 2 =>
        show va_rf ((grT md (wr σ a k x) a j).map ad) = va_rf ((grT md σ a j).map ad)
        rw [grT_wr_ne hj]
      | n + 3 => rfl
  exact congrArg (fun z => (Sum.inr ((kdT md σ a).1 - 10, z) : va_E)) this
theorem okv {ty : Nat} {ds : String} {x : Int32} (h : am_ok ty x = true) (h1 : ty ≠ 1) (h2 : ty ≠ 2) (ht : tyq ty ds) : ∃ f, parseFieldDescriptor ds = some f ∧ narrow f (.int x) = .int x ∧ fits f (.int x) = true := by
  rcases ht with ⟨rfl, h3⟩ | ⟨rfl, h3⟩ | ⟨rfl, h3⟩ | ⟨rfl, h3⟩ | ⟨rfl, h3⟩ | ⟨rfl, h3⟩
  · exact ⟨_, h3, rfl, rfl⟩
  · exact absurd rfl h1
  · exact absurd rfl h2
  · refine ⟨_, h3, ?_⟩
    have h : (x == 0 || x == 1) = true := h
    rcases Bool.or_eq_true_iff.mp h with h | h
    · rw [eq_of_beq h]; exact ⟨rfl, rfl⟩
    · rw [eq_of_beq h]; exact ⟨rfl, rfl⟩
  · refine ⟨_, h3, ?_⟩
    have h : (x.toInt8.toInt32 == x) = true := h
    rw [← eq_of_beq h]
    exact ⟨pk_nb x, pk_fb x⟩
  · refine ⟨_, h3, ?_⟩
    have h : ((x.toUInt32 % 65536).toInt32 == x) = true := h
    rw [← eq_of_beq h]
    exact ⟨pk_nc x, pk_fc x⟩
section SNF
variable {p : Program} {l : Launch} {e : Env} {R : Room} {s : State} {m : MethodId} {args : Array Value} {below : List Frame} {meth : Method} {c : Code} {cells slots : Nat} {Q : State → Prop} {cc : ByteArray} {D : va_G} {dA : Nat → Nat} {md : Bool} {A : Nat → Prop} {nL : Nat} {ad : Nat → Nat} {pc : Nat} {L : Lo} {r : List Value} {σ : Sg} {a : Nat} {own : String} {idx k0 ty fin : Nat} {cs : List Nat}
theorem sn_get (hx : p.tables.exec = Jvm.exec) (hb : c.code = cc) (hK : va_K D CL (TYS dA) s) (hC : ∀ q ∈ CL, CLS q) (ht : ∀ w ∈ lw_all, w.before args s = true) (hN : NWs s) (hown : s.vm.findClass own = some m.cls) (hF : FOK own idx k0 ty fin cs) (hd : decode cc pc = .ok (.getfield idx, 3)) (hc : (kdT md σ a).1 ∈ cs) (k : GL p l e R s m args below meth c D dA md A nL cells slots Q ad (pc + 3) L (am_rf md σ a k0 ty :: r) σ) : GL p l e R s m args below meth c D dA md A nL cells slots Q ad pc L (.ref a :: r) σ := by
  intro H locs ls hW hL hV
  obtain ⟨ref, nm, ds, nest, hl, hty, hcs⟩ := hF
  obtain ⟨hk, q, hq, hk0, hnm, hds, hsame, -, -, he⟩ := hcs _ hc
  have ha := hW.2.2.2.lt (a := a) (by omega)
  have hV1 : vok σ (am_rf md σ a k0 ty) := by
    match ty with
    | 0 => trivial
    | 1 => trivial
    | 2 => exact vok_of (fun b hb => hW.2.2.2.2.1 a k0 b ha hb)
    | n + 3 => trivial
  have k1 := k H locs ls hW hL ⟨fqc hV1 (fq1 hV.1), hV.2⟩
  rw [List.map_cons, ← e_vm] at k1
  have hat := (e_at (ad := ad) (dA := dA) ha).trans (by rw [e_o hk])
  have hfs : ((e_f (kdT md σ a).1).mapIdx (fun k t => e_v ad md σ a k t))[k0]? = some (e_v ad md σ a k0 ty) := by
    rw [List.getElem?_mapIdx, he]; rfl
  have hsm : ∀ x, s.fieldFound? (q.2.1 k0).1 (q.2.1 k0).2.1 (q.2.1 k0).2.2.1 = some x → s.fieldFound? ref (q.2.1 k0).2.1 (q.2.1 k0).2.2.1 = some x := by
    rw [hnm, hds]
    rcases hsame with h | h
    · rw [h]; exact fun x hx => hx
    · exact fun x hx => u_same (ht _ h) x hx
  have hcl := hC q (List.mem_of_getElem? hq)
  cases nest with
  | true =>
    obtain ⟨host, hl⟩ := hl
    exact va_getN (C := q.1) (T := q.2.1) (N := q.2.2) hx hb ht hcl.1 hown hK hW.1 a hat hq k0 hk0 (by rw [hnm, hds]; exact va_Nw.use rfl (hN _ hl rfl)) hsm hfs hd k1
  | false =>
    exact va_get (C := q.1) (T := q.2.1) (N := q.2.2) hx hb ht hcl.1 hown hK hW.1 a hat hq k0 hk0 (by rw [hnm, hds]; exact ht _ hl) hsm hfs hd k1
theorem put_W {H : Heap} {locs : List Loc} {ls : Array Slot} {rest : List Value} {v : Value} {σ1 : Sg} (hx : p.tables.exec = Jvm.exec) (hb : c.code = cc) (hK : va_K D CL (TYS dA) s) (hC : ∀ q ∈ CL, CLS q) (ht : ∀ w ∈ lw_all, w.before args s = true) (hN : NWs s) (hown : s.vm.findClass own = some m.cls) (hF : FOK own idx k0 ty fin cs) (hd : decode cc pc = .ok (.putfield idx, 3)) (hc : (kdT md σ a).1 ∈ cs) (hfin : fin = 0 ∨ fin = 1 ∧ meth.name = "<init>")
    (hv : ∀ ds, tyq ty ds → ∃ f, parseFieldDescriptor ds = some f ∧ narrow f v = v ∧ fits f v = true) (hW : WO D dA md A s ad σ H locs)
    (hE : 10 ≤ (kdT md σ a).1 → (e_f (kdT md σ a).1)[k0]? = some ty → e_E ad dA md σ1 a = .inr ((kdT md σ a).1 - 10, ((e_f (kdT md σ a).1).mapIdx (fun k t => e_v ad md σ a k t)).set k0 v))
    (hw : ∀ (H1 : Heap) (locs1 : List Loc) (e1 : va_E), e_E ad dA md σ1 a = e1 → va_P D CL ((e_W ad dA md σ).set a (ad a, e1)) H1 → va_D A ((e_W ad dA md σ).set a (ad a, e1)) → va_S A s.heap H1 locs1 → WO D dA md A s ad σ1 H1 locs1)
    (kk : ∀ (H1 : Heap) (locs1 : List Loc), WO D dA md A s ad σ1 H1 locs1 → W p l e R s m args below meth c H1 locs1 cells slots Q (F0 m (pc + 3) ls rest)) : W p l e R s m args below meth c H locs cells slots Q (F0 m pc ls (v :: .ref (ad a) :: rest)) := by
  obtain ⟨ref, nm, ds, nest, hl, hty, hcs⟩ := hF
  obtain ⟨hk, q, hq, hk0, hnm, hds, hsame, hf0, hf1, he⟩ := hcs _ hc
  have ha := hW.2.2.2.lt (a := a) (by omega)
  have hat := (e_at (ad := ad) (dA := dA) ha).trans (by rw [e_o hk])
  have hsm : ∀ x, s.fieldFound? (q.2.1 k0).1 (q.2.1 k0).2.1 (q.2.1 k0).2.2.1 = some x → s.fieldFound? ref (q.2.1 k0).2.1 (q.2.1 k0).2.2.1 = some x := by
    rw [hnm, hds]
    rcases hsame with h | h
    · rw [h]; exact fun x hx => hx
    · exact fun x hx => u_same (ht _ h) x hx
  obtain ⟨hin, ⟨ty0, hty0⟩, hnms⟩ := hC q (List.mem_of_getElem? hq)
  obtain ⟨f, hpf, hnr, hft⟩ := hv ds hty
  have hlen : k0 < ((e_f (kdT md σ a).1).mapIdx (fun k t => e_v ad md σ a k t)).length := by
    rw [List.length_mapIdx]; exact (List.getElem?_eq_some_iff.mp he).1
  have kk1 := fun H1 locs1 h1 h2 h3 => kk H1 locs1 (hw H1 locs1 _ (hE hk he) h1 h2 h3)
  rcases hfin with hfin | ⟨hfin, hini⟩
  · cases nest with
    | true =>
      obtain ⟨host, hl⟩ := hl
      exact va_putN (C := q.1) (T := q.2.1) (N := q.2.2) hx hb ht hin ty0 hty0 hnms hown hK hW.1 hW.2.1 hW.2.2.1 a hat hq k0 hk0 (by rw [hnm, hds]; exact va_Nw.use rfl (hN _ hl rfl)) hsm (hf0 hfin) (by rw [hds]; exact hpf) hnr hft hlen hd kk1
    | false =>
      exact va_put (C := q.1) (T := q.2.1) (N := q.2.2) hx hb ht hin ty0 hty0 hnms hown hK hW.1 hW.2.1 hW.2.2.1 a hat hq k0 hk0 (by rw [hnm, hds]; exact ht _ hl) hsm (hf0 hfin) (by rw [hds]; exact hpf) hnr hft hlen hd kk1
  · obtain ⟨hf2, hf3, rfl⟩ := hf1 hfin
    exact va_putF (C := q.1) (T := q.2.1) (N := q.2.2) hx hb ht hin ty0 hty0 hnms hown hK hW.1 hW.2.1 hW.2.2.1 a hat hq k0 hk0 (by rw [hnm, hds]; exact ht _ hl) hsm hf2 hini hf3 (by rw [hds]; exact hpf) hnr hft hlen hd kk1
theorem sn_puti {x : Int32} (hx : p.tables.exec = Jvm.exec) (hb : c.code = cc) (hK : va_K D CL (TYS dA) s) (hC : ∀ q ∈ CL, CLS q) (ht : ∀ w ∈ lw_all, w.before args s = true) (hN : NWs s) (hown : s.vm.findClass own = some m.cls) (hF : FOK own idx k0 ty fin cs) (hd : decode cc pc = .ok (.putfield idx, 3)) (hc : (kdT md σ a).1 ∈ cs) (hfin : fin = 0 ∨ fin = 1 ∧ meth.name = "<init>") (hok : am_ok ty x = true) (h1 : ty ≠ 1) (h2 : ty ≠ 2) (k : GL p l e R s m args below meth c D dA md A nL cells slots Q ad (pc + 3) L r (wi σ a k0 x)) : GL p l e R s m args below meth c D dA md A nL cells slots Q ad pc L (.int x :: .ref a :: r) σ :=
  fun H locs ls hW hL hV => put_W (σ1 := wi σ a k0 x) hx hb hK hC ht hN hown hF hd hc hfin (fun ds hds => okv hok h1 h2 hds) hW (fun hk he => e_seti hk he h1 h2) (fun H1 locs1 e1 he g1 g2 g3 => hW.si (fun q => absurd q (by obtain ⟨_, _, _, _, -, -, hcs⟩ := hF; have := (hcs _ hc).1; omega)) he g1 g2 g3) (fun H1 locs1 hW1 => k H1 locs1 ls hW1 hL ⟨fq2 hV.1, hV.2⟩)
theorem sn_putl {x : Int64} (hx : p.tables.exec = Jvm.exec) (hb : c.code = cc) (hK : va_K D CL (TYS dA) s) (hC : ∀ q ∈ CL, CLS q) (ht : ∀ w ∈ lw_all, w.before args s = true) (hN : NWs s) (hown : s.vm.findClass own = some m.cls) (hF : FOK own idx k0 1 fin cs) (hd : decode cc pc = .ok (.putfield idx, 3)) (hc : (kdT md σ a).1 ∈ cs) (hfin : fin = 0 ∨ fin = 1 ∧ meth.name = "<init>") (k : GL p l e R s m args below meth c D dA md A nL cells slots Q ad (pc + 3) L r (wl σ a k0 x)) : GL p l e R s m args below meth c D dA md A nL cells slots Q ad pc L (.long x :: .ref a :: r) σ :=
  fun H locs ls hW hL hV => put_W (σ1 := wl σ a k0 x) hx hb hK hC ht hN hown hF hd hc hfin (fun ds hds => by
    rcases hds with ⟨h, _⟩ | ⟨h, h3⟩ | ⟨h, _⟩ | ⟨h, _⟩ | ⟨h, _⟩ | ⟨h, _⟩
    · cases h
    · exact ⟨_, h3, rfl, rfl⟩
    all_goals cases h) hW (fun hk he => e_setl hk he) (fun H1 locs1 e1 he g1 g2 g3 => hW.sl he g1 g2 g3) (fun H1 locs1 hW1 => k H1 locs1 ls hW1 hL ⟨fq2 hV.1, hV.2⟩)
theorem tyq2 {ds : String} {v : Value} (h : tyq 2 ds) (hv : v = .null ∨ ∃ a, v = .ref a) : ∃ f, parseFieldDescriptor ds = some f ∧ narrow f v = v ∧ fits f v = true := by
  rcases h with ⟨h, _⟩ | ⟨h, _⟩ | ⟨h, f, h3, h4, h5⟩ | ⟨h, _⟩ | ⟨h, _⟩ | ⟨h, _⟩
  · cases h
  · cases h
  · refine ⟨f, h3, ?_⟩
    rcases hv with rfl | ⟨a, rfl⟩
    · exact h4
    · exact h5 a
  all_goals cases h
theorem sn_putr {x : Nat} (hx : p.tables.exec = Jvm.exec) (hb : c.code = cc) (hK : va_K D CL (TYS dA) s) (hC : ∀ q ∈ CL, CLS q) (ht : ∀ w ∈ lw_all, w.before args s = true) (hN : NWs s) (hown : s.vm.findClass own = some m.cls) (hF : FOK own idx k0 2 fin cs) (hd : decode cc pc = .ok (.putfield idx, 3)) (hc : (kdT md σ a).1 ∈ cs) (hfin : fin = 0 ∨ fin = 1 ∧ meth.name = "<init>") (hs : stT md a k0 = none) (k : GL p l e R s m args below meth c D dA md A nL cells slots Q ad (pc + 3) L r (wr σ a k0 (some x))) : GL p l e R s m args below meth c D dA md A nL cells slots Q ad pc L (.ref x :: .ref a :: r) σ :=
  fun H locs ls hW hL hV => put_W (σ1 := wr σ a k0 (some x)) hx hb hK hC ht hN hown hF hd hc hfin (fun ds hds => tyq2 hds (Or.inr ⟨_, rfl⟩)) hW (fun hk he => e_setr hk he hs) (fun H1 locs1 e1 he g1 g2 g3 => hW.sr (fun b hb => by cases hb; exact hV.1 _ List.mem_cons_self) (fun q => absurd q (by obtain ⟨_, _, _, _, -, -, hcs⟩ := hF; have := (hcs _ hc).1; omega)) he g1 g2 g3) (fun H1 locs1 hW1 => k H1 locs1 ls hW1 hL ⟨fq2 hV.1, hV.2⟩)
theorem sn_putn (hx : p.tables.exec = Jvm.exec) (hb : c.code = cc) (hK : va_K D CL (TYS dA) s) (hC : ∀ q ∈ CL, CLS q) (ht : ∀ w ∈ lw_all, w.before args s = true) (hN : NWs s) (hown : s.vm.findClass own = some m.cls) (hF : FOK own idx k0 2 fin cs) (hd : decode cc pc = .ok (.putfield idx, 3)) (hc : (kdT md σ a).1 ∈ cs) (hfin : fin = 0 ∨ fin = 1 ∧ meth.name = "<init>") (hs : stT md a k0 = none) (k : GL p l e R s m args below meth c D dA md A nL cells slots Q ad (pc + 3) L r (wr σ a k0 none)) : GL p l e R s m args below meth c D dA md A nL cells slots Q ad pc L (.null :: .ref a :: r) σ :=
  fun H locs ls hW hL hV => put_W (σ1 := wr σ a k0 none) hx hb hK hC ht hN hown hF hd hc hfin (fun ds hds => tyq2 hds (Or.inl rfl)) hW (fun hk he => e_setr hk he hs) (fun H1 locs1 e1 he g1 g2 g3 => hW.sr (fun b hb => nomatch hb) (fun _ b hb => nomatch hb) he g1 g2 g3) (fun H1 locs1 hW1 => k H1 locs1 ls hW1 hL ⟨fq2 hV.1, hV.2⟩)
/-- an array's length -/
theorem sn_alen (hx : p.tables.exec = Jvm.exec) (hb : c.code = cc) (hK : va_K D CL (TYS dA) s) (hd : decode cc pc = .ok (.arraylength, 1)) (h1 : 1 ≤ (kdT md σ a).1) (h6 : (kdT md σ a).1 ≤ 6) (k : GL p l e R s m args below meth c D dA md A nL cells slots Q ad (pc + 1) L (.int (Int32.ofNat (kdT md σ a).2) :: r) σ) : GL p l e R s m args below meth c D dA md A nL cells slots Q ad pc L (.ref a :: r) σ := by
  intro H locs ls hW hL hV
  have ha := hW.2.2.2.lt (a := a) (by omega)
  have hk1 := k H locs ls hW hL ⟨fqc trivial (fq1 hV.1), hV.2⟩
  have hcase : (kdT md σ a).1 = 1 ∨ (kdT md σ a).1 = 2 ∨ (kdT md σ a).1 = 3 ∨ (kdT md σ a).1 = 4 ∨ (kdT md σ a).1 = 5 ∨ (kdT md σ a).1 = 6 := by omega
  rcases hcase with hk | hk | hk | hk | hk | hk
  · exact va_alen (x := ((kdT md σ a).2, .inl (gi σ a))) hx hb hK hW.1 a 0 ((e_at ha).trans (by rw [e_1 hk])) rfl rfl hd hk1
  · exact va_alen (x := ((kdT md σ a).2, .inr (.inl (gl σ a)))) hx hb hK hW.1 a 1 ((e_at ha).trans (by rw [e_2 hk])) rfl rfl hd hk1
  · exact va_alen (x := ((kdT md σ a).2, .inl (gi σ a))) hx hb hK hW.1 a 2 ((e_at ha).trans (by rw [e_3 hk])) rfl rfl hd hk1
  · exact va_alen (x := ((kdT md σ a).2, .inl (gi σ a))) hx hb hK hW.1 a 3 ((e_at ha).trans (by rw [e_4 hk])) rfl rfl hd hk1
  · exact va_alen (x := ((kdT md σ a).2, .inr (.inr (.inr (.inr (fun i => (gr σ a i).map ad)))))) hx hb hK hW.1 a 4 ((e_at ha).trans (by rw [e_56 (Or.inl hk), hk])) rfl rfl hd hk1
  · exact va_alen (x := ((kdT md σ a).2, .inr (.inr (.inr (.inr (fun i => (gr σ a i).map ad)))))) hx hb hK hW.1 a 5 ((e_at ha).trans (by rw [e_56 (Or.inr hk), hk])) rfl rfl hd hk1
/-- a class's name by its kind -/
def clN (c : Nat) : String := (CL.getD (c - 10) ("", fun _ => ("", "", "", false), 0)).1
def CAO : Prop := ∀ (i : Nat) (q : vw_C), CL[i]? = some q → Cond.castable q.1 "java/lang/Object" ∈ lw_tbl
theorem WFs.kind {md : Bool} {σ : Sg} {a : Nat} (h : WFs md σ) (h10 : 10 ≤ (kdT md σ a).1) : ∃ q, CL[(kdT md σ a).1 - 10]? = some q := by
  have ha := h.lt (a := a) (by omega)
  rcases (h.1 a ha).2 with h | h
  · omega
  · exact ⟨_, List.getElem?_eq_getElem (by show _ < 27; omega)⟩
theorem sn_aasr {x : Nat} (hx : p.tables.exec = Jvm.exec) (hb : c.code = cc) (hK : va_K D CL (TYS dA) s) (hN : NWs s) (hO : CAO) {i : Int32} (hd : decode cc pc = .ok (.aastore, 1)) (hk : (kdT md σ a).1 = 5 ∧ 10 ≤ (kdT md σ x).1 ∨ (kdT md σ a).1 = 6 ∧ (kdT md σ x).1 = 11) (hi : inb i (kdT md σ a).2) (k : GL p l e R s m args below meth c D dA md A nL cells slots Q ad (pc + 1) L r (wr σ a i.toNatClampNeg (some x))) : GL p l e R s m args below meth c D dA md A nL cells slots Q ad pc L (.ref x :: .int i :: .ref a :: r) σ := by
  intro H locs ls hW hL hV
  have ha := hW.2.2.2.lt (a := a) (by omega)
  have hxx := hW.2.2.2.lt (a := x) (by omega)
  have hx10 : 10 ≤ (kdT md σ x).1 := by omega
  obtain ⟨q, hq⟩ := hW.2.2.2.kind hx10
  have hatx := (e_at (ad := ad) (dA := dA) hxx).trans (by rw [e_o hx10])
  have kk : ∀ (H1 : Heap) (locs1 : List Loc), WO D dA md A s ad (wr σ a i.toNatClampNeg (some x)) H1 locs1 → W p l e R s m args below meth c H1 locs1 cells slots Q (F0 m (pc + 1) ls (r.map (mv ad))) := fun H1 locs1 hW1 => k H1 locs1 ls hW1 hL ⟨fq1 (fq2 hV.1), hV.2⟩
  have hxv : ∀ b, some x = some b → vokN σ b := fun b hb => by cases hb; exact hV.1 _ List.mem_cons_self
  rcases hk with ⟨hk, -⟩ | ⟨hk, hk2⟩
  · exact va_astqM hx hb hK hW.1 hW.2.1 hW.2.2.1 a 4 ((e_at ha).trans (by rw [e_56 (Or.inl hk), hk])) rfl (va_rAny hK hW.1 hatx hq (vb_asgC (hN _ (hO _ _ hq) rfl))) (in_of hi) hd (fun H1 locs1 h1 h2 h3 => kk H1 locs1 (hW.sr hxv (fun _ b hb => by cases hb; exact hx10) (by rw [e_56 (Or.inl (show (kdT md (wr σ a i.toNatClampNeg (some x)) a).1 = 5 from hk)), gr_wr, map_up, show (kdT md (wr σ a i.toNatClampNeg (some x)) a).1 = 5 from hk]; rfl) h1 h2 h3))
  · rw [hk2] at hatx
    exact va_astq hx hb hK hW.1 hW.2.1 hW.2.2.1 a 5 x 1 ((e_at ha).trans (by rw [e_56 (Or.inr hk), hk])) (r := (RX1, TX1, 20)) rfl hatx rfl (in_of hi) hd (fun H1 locs1 h1 h2 h3 => kk H1 locs1 (hW.sr hxv (fun _ b hb => by cases hb; exact hx10) (by rw [e_56 (Or.inr (show (kdT md (wr σ a i.toNatClampNeg (some x)) a).1 = 6 from hk)), gr_wr, map_up, show (kdT md (wr σ a i.toNatClampNeg (some x)) a).1 = 6 from hk]; rfl) h1 h2 h3))
/-- a cast that holds -/
def CK (own : String) (idx : Nat) (cs : List Nat) : Prop := ∃ nm, Cond.classLink own idx nm ∈ lw_all ∧ ∀ c ∈ cs, 10 ≤ c ∧ ∃ q, CL[c - 10]? = some q ∧ (q.1 = nm ∨ Cond.castable q.1 nm ∈ lw_tbl)
theorem sn_cast (hx : p.tables.exec = Jvm.exec) (hb : c.code = cc) (hK : va_K D CL (TYS dA) s) (ht : ∀ w ∈ lw_all, w.before args s = true) (hN : NWs s) (hown : s.vm.findClass own = some m.cls) (hC : CK own idx cs) (hd : decode cc pc = .ok (.checkcast idx, 3)) (hc : (kdT md σ a).1 ∈ cs) (k : GL p l e R s m args below meth c D dA md A nL cells slots Q ad (pc + 3) L (.ref a :: r) σ) : GL p l e R s m args below meth c D dA md A nL cells slots Q ad pc L (.ref a :: r) σ := by
  intro H locs ls hW hL hV
  obtain ⟨nm, hl, hcs⟩ := hC
  obtain ⟨h10, q, hq, hs⟩ := hcs _ hc
  have ha := hW.2.2.2.lt (a := a) (by omega)
  have hat := (e_at (ad := ad) (dA := dA) ha).trans (by rw [e_o h10])
  have hr := va_recv hK hW.1 hq hat
  have k1 := k H locs ls hW hL hV
  rcases hs with h | h
  · subst h
    exact va_castS hx hb hown (ht _ hl) (hK.1 _ _ hq).2 hr hd k1
  · exact va_castY hx hb hown (ht _ hl) (hN _ h rfl) hr hd k1
theorem sn_castN (hx : p.tables.exec = Jvm.exec) (hb : c.code = cc) (hd : decode cc pc = .ok (.checkcast idx, 3)) (k : GL p l e R s m args below meth c D dA md A nL cells slots Q ad (pc + 3) L (.null :: r) σ) : GL p l e R s m args below meth c D dA md A nL cells slots Q ad pc L (.null :: r) σ :=
  fun H locs ls hW hL hV => lv_castN hx hb hd (k H locs ls hW hL hV)
end SNF
