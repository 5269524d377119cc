/-! SOUNDNESS 6: one instruction of the same frame -/
set_option maxRecDepth 100000
def ilen (i : Instr) : Nat := match i with
  | .bipush _ | .ldc _ | .iload _ | .lload _ | .aload _ | .istore _ | .lstore _ | .astore _ | .newarray _ => 2
  | .getstatic _ | .if_acmp _ _ | .sipush _ | .ldc_w _ | .ldc2_w _ | .iinc _ _ | .ifCond _ _ | .if_icmp _ _ | .ifnull _ | .ifnonnull _ | .goto _ | .getfield _ | .putfield _ | .invokestatic _ | .invokevirtual _ | .invokespecial _ | .new _ | .anewarray _ | .checkcast _ => 3
  | .invokeinterface _ _ => 5
  | _ => 1
def am_vk (r : Option (Nat × Nat × List (Nat × Nat))) (c : Nat → List (Nat × Nat) → Bool) : Bool := match r with
  | some q => c q.2.1 q.2.2
  | none => true
def am_wf2 (o nL pc : Nat) (i : Instr) : Bool := match i with
  | .istore_n n | .astore_n n => decide ((n : Nat) < nL)
  | .istore n | .astore n | .iinc n _ => decide (n < nL)
  | .lstore_n n | .dstore_n n => decide ((n : Nat) + 1 < nL)
  | .lstore n => decide (n + 1 < nL)
  | .ifCond _ off | .if_icmp _ off | .ifnull off | .ifnonnull off | .goto off => decide (0 ≤ (pc : Int) + off)
  | .tableswitch d _ _ offs => decide (0 ≤ (pc : Int) + d) && offs.toList.all (fun z => decide (0 ≤ (pc : Int) + z))
  | .ldc i => match am_tb lkK o i with
    | some (.int _) | some (.float _) | some (.ref _) | none => true
    | _ => false
  | .ldc_w i => match am_tb lkK o i with
    | some (.int _) | none => true
    | _ => false
  | .ldc2_w i => match am_tb lkK o i with
    | some (.long _) | some (.double _) | none => true
    | _ => false
  | .invokestatic i => am_vk (am_tb lkM o i) (fun vk ds => vk == 0 && (Nat.blt (ds.headD (0, 0)).2 20000 || ((ds.headD (0, 0)).2 == 20001 || ((ds.headD (0, 0)).2 == 20002 || (ds.headD (0, 0)).2 == 20003))))
  | .invokespecial i => am_vk (am_tb lkM o i) (fun vk ds => vk == 2 && (Nat.blt (ds.headD (0, 0)).2 20000 || ((ds.headD (0, 0)).2 == 20000 || (ds.headD (0, 0)).2 == 20006)))
  | .invokevirtual i => am_vk (am_tb lkM o i) (fun vk ds => (vk == 1 && (!(o == 11 && i == 42) && ds.all (fun x => Nat.blt x.2 20000))) || (vk == 2 && ((ds.headD (0, 0)).2 == 20004 || ((ds.headD (0, 0)).2 == 20005 || ((ds.headD (0, 0)).2 == 20007 || (ds.headD (0, 0)).2 == 20008)))))
  | .invokeinterface i _ => am_vk (am_tb lkM o i) (fun vk _ => vk == 1 && (o == 11 && i == 42))
  | _ => true
/-- tableswitch's length goes by its entries: any is right -/
def ists (i : Instr) : Bool := match i with
  | .tableswitch _ _ _ _ => true
  | _ => false
def am_wfq (o nL : Nat) (q : Nat × Instr × Nat) : Bool := (ists q.2.1 || decide (q.2.2 = ilen q.2.1)) && am_wf2 o nL q.1 q.2.1
theorem wf_i {o nL pc len : Nat} {i : Instr} (h : am_wfq o nL (pc, i, len) = true) : (ists i = false → len = ilen i) ∧ am_wf2 o nL pc i = true := by
  have h1 : ((ists i || decide (len = ilen i)) && am_wf2 o nL pc i) = true := h
  have h2 := Bool.and_eq_true_iff.mp h1
  refine ⟨fun hf => ?_, h2.2⟩
  have h3 := h2.1
  rw [hf] at h3
  exact of_decide_eq_true h3
theorem wf_t0 {o nL pc : Nat} {d lo hi : Int} {offs : Array Int} (h : am_wf2 o nL pc (.tableswitch d lo hi offs) = true) : 0 ≤ (pc : Int) + d := of_decide_eq_true (Bool.and_eq_true_iff.mp h).1
theorem wf_t1 {o nL pc j : Nat} {d lo hi off : Int} {offs : Array Int} (h : am_wf2 o nL pc (.tableswitch d lo hi offs) = true) (hj : offs[j]? = some off) : 0 ≤ (pc : Int) + off := by
  have h1 := List.all_eq_true.mp (Bool.and_eq_true_iff.mp h).2 off (by
    have := List.mem_of_getElem? (l := offs.toList) (i := j) (a := off) (by rw [Array.getElem?_toList]; exact hj)
    exact this)
  exact of_decide_eq_true h1
theorem nxi {pc : Nat} {L : Lo} {st : List Value} {σ : Sg} {f : Fr} (h : am_nx pc L st σ = some (.inl f)) : f = (pc, L, st, σ) := by
  unfold am_nx at h
  cases h
  rfl
theorem calln {md : Bool} {M : Mi} {idx len pc : Nat} {L : Lo} {st : List Value} {σ : Sg} {f : Fr} : ¬ am_call md M idx len pc L st σ = some (.inl f) := by
  intro h
  unfold am_call at h
  split at h
  · cases h
  · split at h
    · split at h
      · cases h
      · split at h <;> cases h
      · split at h
        · split at h <;> cases h
        · cases h
    · cases h
theorem puti {ty : Nat} {x : Int32} (h : (am_ok ty x && !(ty == 1 || ty == 2)) = true) : am_ok ty x = true ∧ ty ≠ 1 ∧ ty ≠ 2 := by
  have h1 := Bool.and_eq_true_iff.mp h
  refine ⟨h1.1, fun q => ?_, fun q => ?_⟩
  · subst q; cases h1.2
  · subst q; cases h1.2
theorem putr {md : Bool} {a k ty : Nat} (h : (ty == 2 && (stT md a k).isNone) = true) : ty = 2 ∧ stT md a k = none := by
  have h1 := Bool.and_eq_true_iff.mp h
  exact ⟨eq_of_beq h1.1, Option.isNone_iff_eq_none.mp h1.2⟩
theorem putc {meth : Method} {M : Mi} {cs : List Nat} {kd fin : Nat} (hct : am_ct M = true → meth.name = "<init>") (h : (cs.elem kd && (fin == 0 || fin == 1 && am_ct M)) = true) : kd ∈ cs ∧ (fin = 0 ∨ fin = 1 ∧ meth.name = "<init>") := by
  have h1 := Bool.and_eq_true_iff.mp h
  refine ⟨List.elem_iff.mp h1.1, ?_⟩
  rcases Bool.or_eq_true_iff.mp h1.2 with h2 | h2
  · exact Or.inl (eq_of_beq h2)
  · have h3 := Bool.and_eq_true_iff.mp h2
    exact Or.inr ⟨eq_of_beq h3.1, hct h3.2⟩
theorem cl_wn (σ : Sg) (q : Nat × Nat) (n : Nat) : cl σ + 1 ≤ cl (wn σ q n) := by
  show gz σ + gs σ / 1000 + 1 ≤ gz σ + 1 + (gs σ + n) / 1000
  have := Nat.div_le_div_right (c := 1000) (show gs σ ≤ gs σ + n from Nat.le_add_right _ _)
  omega
theorem new_c {σ σ1 : Sg} {q : Nat × Nat} {n c0 : Nat} {R : Room} (h : c0 ≤ cl σ) (hR : cl σ1 - c0 ≤ R.cells) (hg : am_new σ q n = some σ1) : cl σ - c0 + 1 ≤ R.cells := by
  obtain ⟨-, -, rfl⟩ := am_new_i hg
  have := cl_wn σ q n
  omega
theorem new_s {σ σ1 : Sg} {q : Nat × Nat} {n s0 : Nat} {R : Room} (h : s0 ≤ gs σ) (hR : gs σ1 - s0 ≤ R.slots) (hg : am_new σ q n = some σ1) : gs σ - s0 + n ≤ R.slots := by
  obtain ⟨-, -, rfl⟩ := am_new_i hg
  have : gs (wn σ q n) = gs σ + n := rfl
  omega
theorem new_c1 {σ σ1 : Sg} {q : Nat × Nat} {n c0 : Nat} (h : c0 ≤ cl σ) (hg : am_new σ q n = some σ1) : cl σ - c0 + 1 ≤ cl σ1 - c0 := by
  obtain ⟨-, -, rfl⟩ := am_new_i hg
  have := cl_wn σ q n
  omega
theorem new_s1 {σ σ1 : Sg} {q : Nat × Nat} {n s0 : Nat} (h : s0 ≤ gs σ) (hg : am_new σ q n = some σ1) : gs σ - s0 + n ≤ gs σ1 - s0 := by
  obtain ⟨-, -, rfl⟩ := am_new_i hg
  have : gs (wn σ q n) = gs σ + n := rfl
  omega
section SNI
variable {p : Program} {l : Launch} {e : Env} {R : Room} {s : State} {m : MethodId} {args : Array Value} {below : List Frame} {meth : Method} {c : Code} {cells slots : Nat} {Q : State → Prop} {cc : ByteArray} {D : va_G} {dA : Nat → Nat} {md : Bool} {A : Nat → Prop} {z0 : Nat} {nL : Nat} {ad : Nat → Nat} {pc : Nat} {L : Lo} {r : List Value} {σ : Sg} {own : String} {idx : Nat}
theorem GLw {c1 s1 : Nat} {st : List Value} (h1 : cells ≤ c1) (h2 : slots ≤ s1) (k : GL p l e R s m args below meth c D dA md A nL c1 s1 Q ad pc L st σ) : GL p l e R s m args below meth c D dA md A nL cells slots Q ad pc L st σ :=
  fun H locs ls hW hL hV T hT X => k H locs ls hW hL hV T hT (stand_widen X h1 h2)
def ldk (v : Value) : Nat := match v with
  | .int _ => 1
  | .float _ => 1
  | .ref _ => 1
  | _ => 2
theorem sn_ldc {v : Value} (hx : p.tables.exec = Jvm.exec) (hb : c.code = cc) (ht : ∀ w ∈ lw_all, w.before args s = true) (hown : s.vm.findClass own = some m.cls) (hS : ∀ (j : Nat) (x : String × Nat × String), SL[j]? = some x → vk_R x.1 x.2.1 x.2.2 (ad (1000000 + j)) s) (hk : KOK own idx v) (hv : (∃ x, v = .int x) ∨ (∃ x, v = .float x) ∨ ∃ x, v = .ref x) (hd : decode cc pc = .ok (.ldc idx, 2)) (k : GL p l e R s m args below meth c D dA md A nL cells slots Q ad (pc + 2) L (v :: r) σ) : GL p l e R s m args below meth c D dA md A nL cells slots Q ad pc L r σ := by
  intro H locs ls hW hL hV
  rcases hv with ⟨x, rfl⟩ | ⟨x, rfl⟩ | ⟨x, rfl⟩
  · exact lv_ldc hx hb hown (ht _ hk) hd (k H locs ls hW hL ⟨fqc trivial hV.1, hV.2⟩)
  · exact lv_ldcf hx hb hown (ht _ hk) hd (k H locs ls hW hL ⟨fqc trivial hV.1, hV.2⟩)
  · obtain ⟨j, t, rfl, h2⟩ := hk
    exact va_ldcS hx hb hown (hS j _ h2) hd (k H locs ls hW hL ⟨fqc (Or.inr (Nat.le_add_right _ _)) hV.1, hV.2⟩)
theorem sn_ldcw {v : Value} (hx : p.tables.exec = Jvm.exec) (hb : c.code = cc) (ht : ∀ w ∈ lw_all, w.before args s = true) (hown : s.vm.findClass own = some m.cls) (hk : KOK own idx v) (hv : ∃ x, v = .int x) (hd : decode cc pc = .ok (.ldc_w idx, 3)) (k : GL p l e R s m args below meth c D dA md A nL cells slots Q ad (pc + 3) L (v :: r) σ) : GL p l e R s m args below meth c D dA md A nL cells slots Q ad pc L r σ := by
  intro H locs ls hW hL hV
  obtain ⟨x, rfl⟩ := hv
  exact lv_ldcw hx hb hown (ht _ hk) hd (k H locs ls hW hL ⟨fqc trivial hV.1, hV.2⟩)
theorem sn_ldc2 {v : Value} (hx : p.tables.exec = Jvm.exec) (hb : c.code = cc) (ht : ∀ w ∈ lw_all, w.before args s = true) (hown : s.vm.findClass own = some m.cls) (hk : KOK own idx v) (hv : (∃ x, v = .long x) ∨ ∃ x, v = .double x) (hd : decode cc pc = .ok (.ldc2_w idx, 3)) (k : GL p l e R s m args below meth c D dA md A nL cells slots Q ad (pc + 3) L (v :: r) σ) : GL p l e R s m args below meth c D dA md A nL cells slots Q ad pc L r σ := by
  intro H locs ls hW hL hV
  rcases hv with ⟨x, rfl⟩ | ⟨x, rfl⟩
  · exact lv_ldc2 hx hb hown (ht _ hk) hd (k H locs ls hW hL ⟨fqc trivial hV.1, hV.2⟩)
  · exact lv_ldc2d hx hb hown (ht _ hk) hd (k H locs ls hW hL ⟨fqc trivial hV.1, hV.2⟩)
theorem wf_k1 {o nL pc i : Nat} {v : Value} (hv : am_tb lkK o i = some v) (h : am_wf2 o nL pc (.ldc i) = true) : (∃ x, v = .int x) ∨ (∃ x, v = .float x) ∨ ∃ x, v = .ref x := by
  unfold am_wf2 at h
  dsimp only at h
  rw [hv] at h
  cases v with
  | int x => exact Or.inl ⟨x, rfl⟩
  | float x => exact Or.inr (Or.inl ⟨x, rfl⟩)
  | ref x => exact Or.inr (Or.inr ⟨x, rfl⟩)
  | _ => cases h
theorem wf_k2 {o nL pc i : Nat} {v : Value} (hv : am_tb lkK o i = some v) (h : am_wf2 o nL pc (.ldc_w i) = true) : ∃ x, v = .int x := by
  unfold am_wf2 at h
  dsimp only at h
  rw [hv] at h
  cases v with
  | int x => exact ⟨x, rfl⟩
  | _ => cases h
theorem wf_k3 {o nL pc i : Nat} {v : Value} (hv : am_tb lkK o i = some v) (h : am_wf2 o nL pc (.ldc2_w i) = true) : (∃ x, v = .long x) ∨ ∃ x, v = .double x := by
  unfold am_wf2 at h
  dsimp only at h
  rw [hv] at h
  cases v with
  | long x => exact Or.inl ⟨x, rfl⟩
  | double x => exact Or.inr ⟨x, rfl⟩
  | _ => cases h
/-- the class of the rows is one -/
theorem TYS_one {ty : FieldType} {cA : ClassId} {j : Nat} (hK : va_K D CL (TYS dA ++ [(cA, ty)]) s) (hj : (TYS dA)[j]? = some (dA (j + 1), ty)) : cA = dA (j + 1) := by
  have h1 := (hK.2 6 (cA, ty) rfl).2
  have h2 := (hK.2 j (dA (j + 1), ty) (by rw [List.getElem?_append_left (List.getElem?_eq_some_iff.mp hj).1]; exact hj)).2
  cases ty with
  | object C =>
    obtain ⟨_, _, -, -, -, f1⟩ := h1
    obtain ⟨_, _, -, -, -, f2⟩ := h2
    exact Option.some.inj (f1.symm.trans f2)
  | _ => exact Option.some.inj (Eq.trans (Eq.symm h1) h2)
theorem new_W {σ1 : Sg} {H1 H : Heap} {locs : List Loc} {ls : Array Slot} {a q n cells1 slots1 pc1 : Nat} (hW : WO D dA md (AA z0) s ad σ H locs) (hL : lvR ad L ls nL) (hV : VOK σ L r) (h1 : 1 ≤ q) (h6 : q ≤ 6) (hg : am_new σ (q, n) n = some σ1) {e1 : va_E} (he : e1 = .inl (dA q, n, if q = 2 then .inr (.inl (fun _ => 0)) else if q ≤ 4 then .inl (fun _ => 0) else .inr (.inr (.inr (.inr (fun _ => none)))))) (w1 : va_P D CL (e_W ad dA md σ ++ [(a, e1)]) H1) (w2 : va_D (AA z0) (e_W ad dA md σ ++ [(a, e1)])) (w3 : va_S (AA z0) s.heap H1 locs)
    (k : ∀ ad1, ext ad ad1 σ → GL p l e R s m args below meth c D dA md (AA z0) nL cells1 slots1 Q ad1 pc1 L (.ref (gz σ) :: r) σ1) : W p l e R s m args below meth c H1 locs cells1 slots1 Q (F0 m pc1 ls (.ref a :: r.map (mv ad))) := by
  obtain ⟨g1, g2, rfl⟩ := am_new_i hg
  have hex := ext_up (ad := ad) (q := a) hW.2.2.2
  have hup : gz σ ≤ gz (wn σ (q, n) n) := Nat.le_succ _
  have kk := k (upA ad (gz σ) a) hex H1 locs ls (WO_wn hW ⟨h1, Or.inl h6⟩ g1 g2 ((e_wnA hW.2.2.2 h1 h6).trans he.symm) w1 w2 w3) (hL.ext hex hV.2) ⟨fqc (Or.inl (Nat.lt_succ_self _)) (fun v hv => (hV.1 v hv).up hup), fun i v hv => (hV.2 i v hv).up hup⟩
  rw [List.map_cons, map_ext hex hV.1] at kk
  have : mv (upA ad (gz σ) a) (.ref (gz σ)) = .ref a := congrArg Value.ref (if_pos rfl)
  rw [this] at kk
  exact kk
theorem sn_newarr {ty : ArrayType} {n : Int32} {q : Nat} {σ1 : Sg} (hx : p.tables.exec = Jvm.exec) (hb : c.code = cc) (hK : va_K D CL (TYS dA) s) (ht : ∀ w ∈ lw_all, w.before args s = true) (hz : z0 ≤ s.heap.size) (hn : ¬ n < 0) (hq : am_art ty = q + 1) (hd : decode cc pc = .ok (.newarray ty, 2)) (hg : am_new σ (q + 1, n.toNatClampNeg) n.toNatClampNeg = some σ1) (hcells : cells + 1 ≤ R.cells) (hslots : slots + n.toNatClampNeg ≤ R.slots) (k : ∀ ad1, ext ad ad1 σ → GL p l e R s m args below meth c D dA md (AA z0) nL (cells + 1) (slots + n.toNatClampNeg) Q ad1 (pc + 2) L (.ref (gz σ) :: r) σ1) : GL p l e R s m args below meth c D dA md (AA z0) nL cells slots Q ad pc L (.int n :: r) σ := by
  intro H locs ls hW hL hV
  have hV1 : VOK σ L r := ⟨fq1 hV.1, hV.2⟩
  obtain ⟨g1, g2, -⟩ := am_new_i hg
  cases ty with
  | int =>
    cases hq
    exact va_newa (atype := .int) (ty := .int) (a0 := (n.toNatClampNeg, .inl (fun _ => 0))) hx hb (ht _ q325) rfl hK hW.1 hW.2.1 hW.2.2.1 (fun x hxx => Nat.le_trans hz hxx) (fun _ => rfl) hn rfl (by show _ * 4 ≤ _; omega) hcells hslots hd (fun a cA H1 w0 w1 w2 w3 => new_W hW hL hV1 (by omega) (by omega) hg (by rw [TYS_one w0 (j := 0) rfl]; rfl) w1 w2 w3 k)
  | long =>
    cases hq
    exact va_newa (atype := .long) (ty := .long) (a0 := (n.toNatClampNeg, .inr (.inl (fun _ => 0)))) hx hb (ht _ q326) rfl hK hW.1 hW.2.1 hW.2.2.1 (fun x hxx => Nat.le_trans hz hxx) (fun _ => rfl) hn rfl (by show _ * 8 ≤ _; omega) hcells hslots hd (fun a cA H1 w0 w1 w2 w3 => new_W hW hL hV1 (by omega) (by omega) hg (by rw [TYS_one w0 (j := 1) rfl]; rfl) w1 w2 w3 k)
  | byte =>
    cases hq
    exact va_newa (atype := .byte) (ty := .byte) (a0 := (n.toNatClampNeg, .inl (fun _ => 0))) hx hb (ht _ q359) rfl hK hW.1 hW.2.1 hW.2.2.1 (fun x hxx => Nat.le_trans hz hxx) (fun _ => rfl) hn rfl (by show _ * 1 ≤ _; omega) hcells hslots hd (fun a cA H1 w0 w1 w2 w3 => new_W hW hL hV1 (by omega) (by omega) hg (by rw [TYS_one w0 (j := 2) rfl]; rfl) w1 w2 w3 k)
  | boolean =>
    cases hq
    exact va_newa (atype := .boolean) (ty := .boolean) (a0 := (n.toNatClampNeg, .inl (fun _ => 0))) hx hb (ht _ q360) rfl hK hW.1 hW.2.1 hW.2.2.1 (fun x hxx => Nat.le_trans hz hxx) (fun _ => rfl) hn rfl (by show _ * 1 ≤ _; omega) hcells hslots hd (fun a cA H1 w0 w1 w2 w3 => new_W hW hL hV1 (by omega) (by omega) hg (by rw [TYS_one w0 (j := 3) rfl]; rfl) w1 w2 w3 k)
  | _ => cases hq
theorem sn_newref {n : Int32} {q : Nat} {σ1 : Sg} (hx : p.tables.exec = Jvm.exec) (hb : c.code = cc) (hK : va_K D CL (TYS dA) s) (ht : ∀ w ∈ lw_all, w.before args s = true) (hN : NWs s) (hown : s.vm.findClass own = some m.cls) (hz : z0 ≤ s.heap.size) (hn : ¬ n < 0) (hA : AOK own idx q) (hd : decode cc pc = .ok (.anewarray idx, 3)) (hg : am_new σ (q, n.toNatClampNeg) n.toNatClampNeg = some σ1) (hcells : cells + 1 ≤ R.cells) (hslots : slots + n.toNatClampNeg ≤ R.slots) (k : ∀ ad1, ext ad ad1 σ → GL p l e R s m args below meth c D dA md (AA z0) nL (cells + 1) (slots + n.toNatClampNeg) Q ad1 (pc + 3) L (.ref (gz σ) :: r) σ1) : GL p l e R s m args below meth c D dA md (AA z0) nL cells slots Q ad pc L (.int n :: r) σ := by
  intro H locs ls hW hL hV
  have hV1 : VOK σ L r := ⟨fq1 hV.1, hV.2⟩
  obtain ⟨g1, g2, -⟩ := am_new_i hg
  rcases hA with ⟨rfl, h1, h2⟩ | ⟨rfl, h1, h2⟩
  · exact va_newq hx hb hown (ht _ h1) (hN _ h2 rfl) hK hW.1 hW.2.1 hW.2.2.1 (fun x hxx => Nat.le_trans hz hxx) hn rfl (by omega) hcells hslots hd (fun a cA H1 w0 w1 w2 w3 => new_W hW hL hV1 (by omega) (by omega) hg (by rw [TYS_one w0 (j := 4) rfl]; rfl) w1 w2 w3 k)
  · exact va_newq hx hb hown (ht _ h1) (hN _ h2 rfl) hK hW.1 hW.2.1 hW.2.2.1 (fun x hxx => Nat.le_trans hz hxx) hn rfl (by omega) hcells hslots hd (fun a cA H1 w0 w1 w2 w3 => new_W hW hL hV1 (by omega) (by omega) hg (by rw [TYS_one w0 (j := 5) rfl]; rfl) w1 w2 w3 k)
theorem n64p {r : UInt64} (h : am_n64 r = true) : vf_n64 r := by
  exact of_decide_eq_true (p := r &&& 0x7fffffffffffffff ≤ 0x7ff0000000000000) h
theorem sn_ifc {cn : ClassFile.Cond} {x : Int32} {off : Int} (hx : p.tables.exec = Jvm.exec) (hb : c.code = cc) (hd : decode cc pc = .ok (.ifCond cn off, 3)) (ho : 0 ≤ (pc : Int) + off) (k : GL p l e R s m args below meth c D dA md A nL cells slots Q ad (am_cnd cn x 0 (am_tg pc off) (pc + 3)) L (r) σ) : GL p l e R s m args below meth c D dA md A nL cells slots Q ad pc L (.int x :: r) σ := by
  cases cn with
  | eq => exact sn_if_eq hx hb hd ho k
  | ne => exact sn_if_ne hx hb hd ho k
  | lt => exact sn_if_lt hx hb hd ho k
  | ge => exact sn_if_ge hx hb hd ho k
  | gt => exact sn_if_gt hx hb hd ho k
  | le => exact sn_if_le hx hb hd ho k
theorem sn_icmpc {cn : ClassFile.Cond} {x y : Int32} {off : Int} (hx : p.tables.exec = Jvm.exec) (hb : c.code = cc) (hd : decode cc pc = .ok (.if_icmp cn off, 3)) (ho : 0 ≤ (pc : Int) + off) (k : GL p l e R s m args below meth c D dA md A nL cells slots Q ad (am_cnd cn x y (am_tg pc off) (pc + 3)) L (r) σ) : GL p l e R s m args below meth c D dA md A nL cells slots Q ad pc L (.int y :: .int x :: r) σ := by
  cases cn with
  | eq => exact sn_icmp_eq hx hb hd ho k
  | ne => exact sn_icmp_ne hx hb hd ho k
  | lt => exact sn_icmp_lt hx hb hd ho k
  | ge => exact sn_icmp_ge hx hb hd ho k
  | gt => exact sn_icmp_gt hx hb hd ho k
  | le => exact sn_icmp_le hx hb hd ho k
theorem sn_ins {M : Mi} {ins : Instr} {len : Nat} {f : Fr} {c0 s0 : Nat} {st : List Value} (hx : p.tables.exec = Jvm.exec) (hb : c.code = cc) (hK : va_K D CL (TYS dA) s) (hC : ∀ q ∈ CL, CLS q) (hO : CAO) (ht : ∀ w ∈ lw_all, w.before args s = true) (hN : NWs s) (hown : s.vm.findClass (ownS (am_ow M)) = some m.cls) (hz : z0 ≤ s.heap.size) (hS : ∀ (j : Nat) (x : String × Nat × String), SL[j]? = some x → vk_R x.1 x.2.1 x.2.2 (ad (1000000 + j)) s) (hct : am_ct M = true → meth.name = "<init>") (hwf : am_wfq (am_ow M) nL (pc, ins, len) = true) (hd : decode cc pc = .ok (ins, len)) (hc0 : c0 ≤ cl σ) (hs0 : s0 ≤ gs σ) (hcR : cl f.2.2.2 - c0 ≤ R.cells) (hsR : gs f.2.2.2 - s0 ≤ R.slots) (h : am_ins md M ins len pc L st σ = some (.inl f)) (k : ∀ ad1, ext ad ad1 σ → GL p l e R s m args below meth c D dA md (AA z0) nL (cl f.2.2.2 - c0) (gs f.2.2.2 - s0) Q ad1 f.1 f.2.1 f.2.2.1 f.2.2.2) : GL p l e R s m args below meth c D dA md (AA z0) nL (cl σ - c0) (gs σ - s0) Q ad pc L st σ := by
  obtain ⟨hlen, hw⟩ := wf_i hwf
  unfold am_ins at h
  split at h
  · have e := nxi h; subst e; have hl9 := hlen rfl; subst hl9; exact sn_iconst hx hb hd (k ad ext.rf)
  · have e := nxi h; subst e; have hl9 := hlen rfl; subst hl9; exact sn_bipush hx hb hd (k ad ext.rf)
  · have e := nxi h; subst e; have hl9 := hlen rfl; subst hl9; exact sn_sipush hx hb hd (k ad ext.rf)
  · have e := nxi h; subst e; have hl9 := hlen rfl; subst hl9; exact sn_lconst hx hb hd (k ad ext.rf)
  · split at h <;> first | (cases h; done) | skip
    rename_i hn; subst hn; have e := nxi h; subst e; have hl9 := hlen rfl; subst hl9; exact sn_dconst hx hb hd (k ad ext.rf)
  · have e := nxi h; subst e; have hl9 := hlen rfl; subst hl9; exact sn_null hx hb hd (k ad ext.rf)
  · split at h <;> first | (cases h; done) | skip
    rename_i hv; have e := nxi h; subst e; have hl9 := hlen rfl; subst hl9; exact sn_ldc hx hb ht hown hS (lkK_ok hv) (wf_k1 hv hw) hd (k ad ext.rf)
  · split at h <;> first | (cases h; done) | skip
    rename_i hv; have e := nxi h; subst e; have hl9 := hlen rfl; subst hl9; exact sn_ldcw hx hb ht hown (lkK_ok hv) (wf_k2 hv hw) hd (k ad ext.rf)
  · split at h <;> first | (cases h; done) | skip
    rename_i hv; have e := nxi h; subst e; have hl9 := hlen rfl; subst hl9; exact sn_ldc2 hx hb ht hown (lkK_ok hv) (wf_k3 hv hw) hd (k ad ext.rf)
  · split at h <;> first | (cases h; done) | skip
    rename_i hl; have e := nxi h; subst e; have hl9 := hlen rfl; subst hl9; exact sn_iload_n hx hb hd hl (k ad ext.rf)
  · split at h <;> first | (cases h; done) | skip
    rename_i hl; have e := nxi h; subst e; have hl9 := hlen rfl; subst hl9; exact sn_iload hx hb hd hl (k ad ext.rf)
  · split at h <;> first | (cases h; done) | skip
    rename_i hl; have e := nxi h; subst e; have hl9 := hlen rfl; subst hl9; exact sn_lload_n hx hb hd hl (k ad ext.rf)
  · split at h <;> first | (cases h; done) | skip
    rename_i hl; have e := nxi h; subst e; have hl9 := hlen rfl; subst hl9; exact sn_lload hx hb hd hl (k ad ext.rf)
  · split at h <;> first | (cases h; done) | skip
    rename_i hl; have e := nxi h; subst e; have hl9 := hlen rfl; subst hl9; exact sn_fload_n hx hb hd hl (k ad ext.rf)
  · split at h <;> first | (cases h; done) | skip
    rename_i hl; have e := nxi h; subst e; have hl9 := hlen rfl; subst hl9; exact sn_dload_n hx hb hd hl (k ad ext.rf)
  · split at h <;> first | (cases h; done) | skip
    · rename_i hl; have e := nxi h; subst e; have hl9 := hlen rfl; subst hl9; exact sn_aload_n hx hb hd hl (k ad ext.rf)
    · rename_i hl; have e := nxi h; subst e; have hl9 := hlen rfl; subst hl9; exact sn_aload_nN hx hb hd hl (k ad ext.rf)
  · split at h <;> first | (cases h; done) | skip
    · rename_i hl; have e := nxi h; subst e; have hl9 := hlen rfl; subst hl9; exact sn_aload hx hb hd hl (k ad ext.rf)
    · rename_i hl; have e := nxi h; subst e; have hl9 := hlen rfl; subst hl9; exact sn_aloadN hx hb hd hl (k ad ext.rf)
  · split at h <;> first | (cases h; done) | skip
    have e := nxi h; subst e; have hl9 := hlen rfl; subst hl9; exact sn_istore_n hx hb hd (of_decide_eq_true hw) (k ad ext.rf)
  · split at h <;> first | (cases h; done) | skip
    have e := nxi h; subst e; have hl9 := hlen rfl; subst hl9; exact sn_istore hx hb hd (of_decide_eq_true hw) (k ad ext.rf)
  · split at h <;> first | (cases h; done) | skip
    have e := nxi h; subst e; have hl9 := hlen rfl; subst hl9; exact sn_lstore_n hx hb hd (of_decide_eq_true hw) (k ad ext.rf)
  · split at h <;> first | (cases h; done) | skip
    have e := nxi h; subst e; have hl9 := hlen rfl; subst hl9; exact sn_lstore hx hb hd (of_decide_eq_true hw) (k ad ext.rf)
  · split at h <;> first | (cases h; done) | skip
    have e := nxi h; subst e; have hl9 := hlen rfl; subst hl9; exact sn_dstore_n hx hb hd (of_decide_eq_true hw) (k ad ext.rf)
  · split at h <;> first | (cases h; done) | skip
    · have e := nxi h; subst e; have hl9 := hlen rfl; subst hl9; exact sn_astore_n hx hb hd (of_decide_eq_true hw) (k ad ext.rf)
    · have e := nxi h; subst e; have hl9 := hlen rfl; subst hl9; exact sn_astore_nN hx hb hd (of_decide_eq_true hw) (k ad ext.rf)
  · split at h <;> first | (cases h; done) | skip
    · have e := nxi h; subst e; have hl9 := hlen rfl; subst hl9; exact sn_astore hx hb hd (of_decide_eq_true hw) (k ad ext.rf)
    · have e := nxi h; subst e; have hl9 := hlen rfl; subst hl9; exact sn_astoreN hx hb hd (of_decide_eq_true hw) (k ad ext.rf)
  · split at h <;> first | (cases h; done) | skip
    rename_i hl
    split at h <;> first | (cases h; done) | skip
    have e := nxi h; subst e; have hl9 := hlen rfl; subst hl9; exact sn_iinc hx hb hd hl (of_decide_eq_true hw) (k ad ext.rf)
  · split at h <;> first | (cases h; done) | skip
    have e := nxi h; subst e; have hl9 := hlen rfl; subst hl9; exact sn_iadd hx hb hd (k ad ext.rf)
  · split at h <;> first | (cases h; done) | skip
    have e := nxi h; subst e; have hl9 := hlen rfl; subst hl9; exact sn_isub hx hb hd (k ad ext.rf)
  · split at h <;> first | (cases h; done) | skip
    have e := nxi h; subst e; have hl9 := hlen rfl; subst hl9; exact sn_imul hx hb hd (k ad ext.rf)
  · split at h <;> first | (cases h; done) | skip
    split at h <;> first | (cases h; done) | skip
    rename_i hc; have e := nxi h; subst e; have hl9 := hlen rfl; subst hl9; exact sn_idiv hx hb hd hc (k ad ext.rf)
  · split at h <;> first | (cases h; done) | skip
    split at h <;> first | (cases h; done) | skip
    rename_i hc; have e := nxi h; subst e; have hl9 := hlen rfl; subst hl9; exact sn_irem hx hb hd hc (k ad ext.rf)
  · split at h <;> first | (cases h; done) | skip
    have e := nxi h; subst e; have hl9 := hlen rfl; subst hl9; exact sn_ineg hx hb hd (k ad ext.rf)
  · split at h <;> first | (cases h; done) | skip
    have e := nxi h; subst e; have hl9 := hlen rfl; subst hl9; exact sn_iand hx hb hd (k ad ext.rf)
  · split at h <;> first | (cases h; done) | skip
    have e := nxi h; subst e; have hl9 := hlen rfl; subst hl9; exact sn_ior hx hb hd (k ad ext.rf)
  · split at h <;> first | (cases h; done) | skip
    have e := nxi h; subst e; have hl9 := hlen rfl; subst hl9; exact sn_ixor hx hb hd (k ad ext.rf)
  · split at h <;> first | (cases h; done) | skip
    have e := nxi h; subst e; have hl9 := hlen rfl; subst hl9; exact sn_ishl hx hb hd (k ad ext.rf)
  · split at h <;> first | (cases h; done) | skip
    have e := nxi h; subst e; have hl9 := hlen rfl; subst hl9; exact sn_ishr hx hb hd (k ad ext.rf)
  · split at h <;> first | (cases h; done) | skip
    have e := nxi h; subst e; have hl9 := hlen rfl; subst hl9; exact sn_iushr hx hb hd (k ad ext.rf)
  · split at h <;> first | (cases h; done) | skip
    have e := nxi h; subst e; have hl9 := hlen rfl; subst hl9; exact sn_ladd hx hb hd (k ad ext.rf)
  · split at h <;> first | (cases h; done) | skip
    have e := nxi h; subst e; have hl9 := hlen rfl; subst hl9; exact sn_lsub hx hb hd (k ad ext.rf)
  · split at h <;> first | (cases h; done) | skip
    have e := nxi h; subst e; have hl9 := hlen rfl; subst hl9; exact sn_lmul hx hb hd (k ad ext.rf)
  · split at h <;> first | (cases h; done) | skip
    split at h <;> first | (cases h; done) | skip
    rename_i hc; have e := nxi h; subst e; have hl9 := hlen rfl; subst hl9; exact sn_ldiv hx hb hd hc (k ad ext.rf)
  · split at h <;> first | (cases h; done) | skip
    split at h <;> first | (cases h; done) | skip
    rename_i hc; have e := nxi h; subst e; have hl9 := hlen rfl; subst hl9; exact sn_lrem hx hb hd hc (k ad ext.rf)
  · split at h <;> first | (cases h; done) | skip
    have e := nxi h; subst e; have hl9 := hlen rfl; subst hl9; exact sn_lneg hx hb hd (k ad ext.rf)
  · split at h <;> first | (cases h; done) | skip
    have e := nxi h; subst e; have hl9 := hlen rfl; subst hl9; exact sn_lxor hx hb hd (k ad ext.rf)
  · split at h <;> first | (cases h; done) | skip
    have e := nxi h; subst e; have hl9 := hlen rfl; subst hl9; exact sn_lshl hx hb hd (k ad ext.rf)
  · split at h <;> first | (cases h; done) | skip
    have e := nxi h; subst e; have hl9 := hlen rfl; subst hl9; exact sn_lshr hx hb hd (k ad ext.rf)
  · split at h <;> first | (cases h; done) | skip
    have e := nxi h; subst e; have hl9 := hlen rfl; subst hl9; exact sn_i2l hx hb hd (k ad ext.rf)
  · split at h <;> first | (cases h; done) | skip
    have e := nxi h; subst e; have hl9 := hlen rfl; subst hl9; exact sn_l2i hx hb hd (k ad ext.rf)
  · split at h <;> first | (cases h; done) | skip
    have e := nxi h; subst e; have hl9 := hlen rfl; subst hl9; exact sn_i2b hx hb hd (k ad ext.rf)
  · split at h <;> first | (cases h; done) | skip
    have e := nxi h; subst e; have hl9 := hlen rfl; subst hl9; exact sn_i2c hx hb hd (k ad ext.rf)
  · split at h <;> first | (cases h; done) | skip
    split at h <;> first | (cases h; done) | skip
    rename_i hc; have e := nxi h; subst e; have hl9 := hlen rfl; subst hl9; exact sn_f2d hx hb hd (n64p hc) (k ad ext.rf)
  · split at h <;> first | (cases h; done) | skip
    have e := nxi h; subst e; have hl9 := hlen rfl; subst hl9; exact sn_d2i hx hb hd (k ad ext.rf)
  · split at h <;> first | (cases h; done) | skip
    split at h <;> first | (cases h; done) | skip
    rename_i hc; have e := nxi h; subst e; have hl9 := hlen rfl; subst hl9; exact sn_dadd hx hb hd (n64p hc) (k ad ext.rf)
  · split at h <;> first | (cases h; done) | skip
    split at h <;> first | (cases h; done) | skip
    rename_i hc; have e := nxi h; subst e; have hl9 := hlen rfl; subst hl9; exact sn_dsub hx hb hd (n64p hc) (k ad ext.rf)
  · split at h <;> first | (cases h; done) | skip
    split at h <;> first | (cases h; done) | skip
    rename_i hc; have e := nxi h; subst e; have hl9 := hlen rfl; subst hl9; exact sn_dmul hx hb hd (n64p hc) (k ad ext.rf)
  · split at h <;> first | (cases h; done) | skip
    have e := nxi h; subst e; have hl9 := hlen rfl; subst hl9; exact sn_dcmp hx hb hd (k ad ext.rf)
  · split at h <;> first | (cases h; done) | skip
    have e := nxi h; subst e; have hl9 := hlen rfl; subst hl9; exact sn_fcmp hx hb hd (k ad ext.rf)
  · split at h <;> first | (cases h; done) | skip
    have e := nxi h; subst e; have hl9 := hlen rfl; subst hl9; exact sn_lcmp hx hb hd (k ad ext.rf)
  · split at h <;> first | (cases h; done) | skip
    split at h <;> first | (cases h; done) | skip
    rename_i hc; have e := nxi h; subst e; have hl9 := hlen rfl; subst hl9; exact sn_dup hx hb hd hc (k ad ext.rf)
  · split at h <;> first | (cases h; done) | skip
    split at h <;> first | (cases h; done) | skip
    rename_i hc; have e := nxi h; subst e; have hl9 := hlen rfl; subst hl9; exact sn_dup_x1 hx hb hd hc.1 hc.2 (k ad ext.rf)
  · split at h <;> first | (cases h; done) | skip
    split at h <;> first | (cases h; done) | skip
    rename_i hc; have e := nxi h; subst e; have hl9 := hlen rfl; subst hl9; exact sn_dup2 hx hb hd hc.1 hc.2 (k ad ext.rf)
  · split at h <;> first | (cases h; done) | skip
    split at h <;> first | (cases h; done) | skip
    rename_i hc; have e := nxi h; subst e; have hl9 := hlen rfl; subst hl9; exact sn_pop hx hb hd hc (k ad ext.rf)
  · split at h <;> first | (cases h; done) | skip
    have e := nxi h; subst e; have hl9 := hlen rfl; subst hl9; exact sn_ifc hx hb hd (of_decide_eq_true hw) (k ad ext.rf)
  · split at h <;> first | (cases h; done) | skip
    have e := nxi h; subst e; have hl9 := hlen rfl; subst hl9; exact sn_icmpc hx hb hd (of_decide_eq_true hw) (k ad ext.rf)
  · split at h <;> first | (cases h; done) | skip
    · have e := nxi h; subst e; have hl9 := hlen rfl; subst hl9; exact sn_ifnull hx hb hd (k ad ext.rf)
    · have e := nxi h; subst e; have hl9 := hlen rfl; subst hl9; exact sn_ifnullN hx hb hd (of_decide_eq_true hw) (k ad ext.rf)
  · split at h <;> first | (cases h; done) | skip
    · have e := nxi h; subst e; have hl9 := hlen rfl; subst hl9; exact sn_ifnonnull hx hb hd (of_decide_eq_true hw) (k ad ext.rf)
    · have e := nxi h; subst e; have hl9 := hlen rfl; subst hl9; exact sn_ifnonnullN hx hb hd (k ad ext.rf)
  · have e := nxi h; subst e; have hl9 := hlen rfl; subst hl9; exact sn_goto hx hb hd (of_decide_eq_true hw) (k ad ext.rf)
  · split at h <;> first | (cases h; done) | skip
    split at h <;> first | (cases h; done) | skip
    · rename_i hc; have e := nxi h; subst e; exact sn_tsOut hx hb hd hc (wf_t0 hw) (k ad ext.rf)
    · rename_i hc
      split at h <;> first | (cases h; done) | skip
      rename_i hof
      have e := nxi h; subst e; exact sn_tsIn hx hb hd hc hof (wf_t1 hw hof) (k ad ext.rf)
  · split at h <;> first | (cases h; done) | skip
    split at h <;> first | (cases h; done) | skip
    all_goals (unfold am_ret at h; cases h)
  · split at h <;> first | (cases h; done) | skip
    split at h <;> first | (cases h; done) | skip
    all_goals (unfold am_ret at h; cases h)
  · split at h <;> first | (cases h; done) | skip
    split at h <;> first | (cases h; done) | skip
    all_goals (unfold am_ret at h; cases h)
  · split at h <;> first | (cases h; done) | skip
    all_goals split at h <;> first | (cases h; done) | skip
  · split at h <;> first | (cases h; done) | skip
    all_goals (unfold am_ret at h; cases h)
  · unfold am_get at h
    split at h <;> first | (cases h; done) | skip
    split at h <;> first | (cases h; done) | skip
    split at h <;> first | (cases h; done) | skip
    rename_i hv hc; have e := nxi h; subst e; have hl9 := hlen rfl; subst hl9; exact sn_get hx hb hK hC ht hN hown (lkF_ok hv) hd (List.elem_iff.mp hc) (k ad ext.rf)
  · unfold am_put at h
    split at h <;> first | (cases h; done) | skip
    split at h <;> first | (cases h; done) | skip
    split at h <;> first | (cases h; done) | skip
    rename_i hv hc
    split at h <;> first | (cases h; done) | skip
    · split at h <;> first | (cases h; done) | skip
      rename_i hi; have e := nxi h; subst e; have hl9 := hlen rfl; subst hl9; have hq := putc hct hc; have h3 := puti hi; exact sn_puti hx hb hK hC ht hN hown (lkF_ok hv) hd hq.1 hq.2 h3.1 h3.2.1 h3.2.2 (k ad ext.rf)
    · split at h <;> first | (cases h; done) | skip
      rename_i hi; have e := nxi h; subst e; have hl9 := hlen rfl; subst hl9; have hq := putc hct hc; have h3 := eq_of_beq hi; subst h3; exact sn_putl hx hb hK hC ht hN hown (lkF_ok hv) hd hq.1 hq.2 (k ad ext.rf)
    · split at h <;> first | (cases h; done) | skip
      rename_i hi; have e := nxi h; subst e; have hl9 := hlen rfl; subst hl9; have hq := putc hct hc; have h3 := putr hi; obtain ⟨h3, h4⟩ := h3; subst h3; exact sn_putr hx hb hK hC ht hN hown (lkF_ok hv) hd hq.1 hq.2 h4 (k ad ext.rf)
    · split at h <;> first | (cases h; done) | skip
      rename_i hi; have e := nxi h; subst e; have hl9 := hlen rfl; subst hl9; have hq := putc hct hc; have h3 := putr hi; obtain ⟨h3, h4⟩ := h3; subst h3; exact sn_putn hx hb hK hC ht hN hown (lkF_ok hv) hd hq.1 hq.2 h4 (k ad ext.rf)
  · exact absurd h calln
  · exact absurd h calln
  · exact absurd h calln
  · exact absurd h calln
  · split at h <;> first | (cases h; done) | skip
    split at h <;> first | (cases h; done) | skip
    rename_i hv _ _ hg; have e := nxi h; subst e; have hl9 := hlen rfl; subst hl9; exact sn_new hx hb hK hC ht hown hz (lkN_ok hv) hd hg (new_c hc0 hcR hg) (new_s hs0 hsR hg) (fun ad1 ha => GLw (new_c1 hc0 hg) (new_s1 hs0 hg) (k ad1 ha))
  · split at h <;> first | (cases h; done) | skip
    split at h <;> first | (cases h; done) | skip
    split at h <;> first | (cases h; done) | skip
    split at h <;> first | (cases h; done) | skip
    rename_i hn _ _ hq _ _ hg; have e := nxi h; subst e; have hl9 := hlen rfl; subst hl9; exact sn_newarr hx hb hK ht hz hn hq hd hg (new_c hc0 hcR hg) (new_s hs0 hsR hg) (fun ad1 ha => GLw (new_c1 hc0 hg) (new_s1 hs0 hg) (k ad1 ha))
  · split at h <;> first | (cases h; done) | skip
    split at h <;> first | (cases h; done) | skip
    split at h <;> first | (cases h; done) | skip
    split at h <;> first | (cases h; done) | skip
    rename_i hn _ _ hv _ _ hg; have e := nxi h; subst e; have hl9 := hlen rfl; subst hl9; exact sn_newref hx hb hK ht hN hown hz hn (lkA_ok hv) hd hg (new_c hc0 hcR hg) (new_s hs0 hsR hg) (fun ad1 ha => GLw (new_c1 hc0 hg) (new_s1 hs0 hg) (k ad1 ha))
  · split at h <;> first | (cases h; done) | skip
    split at h <;> first | (cases h; done) | skip
    rename_i hc; have e := nxi h; subst e; have hl9 := hlen rfl; subst hl9; exact sn_alen hx hb hK hd hc.1 hc.2 (k ad ext.rf)
  · split at h <;> first | (cases h; done) | skip
    split at h <;> first | (cases h; done) | skip
    split at h <;> first | (cases h; done) | skip
    rename_i hk hi; have e := nxi h; subst e; have hl9 := hlen rfl; subst hl9; exact sn_iaload hx hb hK hd hk hi (k ad ext.rf)
  · split at h <;> first | (cases h; done) | skip
    split at h <;> first | (cases h; done) | skip
    split at h <;> first | (cases h; done) | skip
    rename_i hk hi; have e := nxi h; subst e; have hl9 := hlen rfl; subst hl9; exact sn_laload hx hb hK hd hk hi (k ad ext.rf)
  · split at h <;> first | (cases h; done) | skip
    split at h <;> first | (cases h; done) | skip
    split at h <;> first | (cases h; done) | skip
    · rename_i hk hi; have e := nxi h; subst e; have hl9 := hlen rfl; subst hl9; exact sn_baload hx hb hK hd hk hi (k ad ext.rf)
    · split at h <;> first | (cases h; done) | skip
  · split at h <;> first | (cases h; done) | skip
    split at h <;> first | (cases h; done) | skip
    split at h <;> first | (cases h; done) | skip
    rename_i hk hi; have e := nxi h; subst e; have hl9 := hlen rfl; subst hl9; exact sn_aaload hx hb hK hd hk hi (k ad ext.rf)
  · split at h <;> first | (cases h; done) | skip
    split at h <;> first | (cases h; done) | skip
    split at h <;> first | (cases h; done) | skip
    rename_i hk hi; have e := nxi h; subst e; have hl9 := hlen rfl; subst hl9; exact sn_iastore hx hb hK hd hk hi (k ad ext.rf)
  · split at h <;> first | (cases h; done) | skip
    split at h <;> first | (cases h; done) | skip
    split at h <;> first | (cases h; done) | skip
    rename_i hk hi; have e := nxi h; subst e; have hl9 := hlen rfl; subst hl9; exact sn_lastore hx hb hK hd hk hi (k ad ext.rf)
  · split at h <;> first | (cases h; done) | skip
    split at h <;> first | (cases h; done) | skip
    split at h <;> first | (cases h; done) | skip
    rename_i hk hi; have e := nxi h; subst e; have hl9 := hlen rfl; subst hl9; exact sn_bastore hx hb hK hd hk hi (k ad ext.rf)
  · split at h <;> first | (cases h; done) | skip
    · split at h <;> first | (cases h; done) | skip
      split at h <;> first | (cases h; done) | skip
      rename_i hk hi; have e := nxi h; subst e; have hl9 := hlen rfl; subst hl9; exact sn_aasr hx hb hK hN hO hd hk hi (k ad ext.rf)
    · split at h <;> first | (cases h; done) | skip
      split at h <;> first | (cases h; done) | skip
      rename_i hk hi; have e := nxi h; subst e; have hl9 := hlen rfl; subst hl9; exact sn_aasn hx hb hK hd hk hi (k ad ext.rf)
  · split at h <;> first | (cases h; done) | skip
    · split at h <;> first | (cases h; done) | skip
      split at h <;> first | (cases h; done) | skip
      · rename_i hv hc; have e := nxi h; subst e; have hl9 := hlen rfl; subst hl9; exact sn_cast hx hb hK ht hN hown (lkC_ok hv) hd (List.elem_iff.mp hc) (k ad ext.rf)
      · split at h <;> first | (cases h; done) | skip
    · have e := nxi h; subst e; have hl9 := hlen rfl; subst hl9; exact sn_castN hx hb hd (k ad ext.rf)
  · split at h
    all_goals first | (split at h <;> cases h; done) | (cases h; done) | skip
  · cases h
end SNI
