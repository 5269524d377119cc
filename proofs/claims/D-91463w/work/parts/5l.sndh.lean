/-! SOUNDNESS 18: builtins: rows -/
set_option maxRecDepth 100000
theorem dec_ok {cc : ByteArray} {pc len : Nat} {ins : Instr} (h : am_chk cc (pc, ins, len) = true) : decode cc pc = .ok (ins, len) := by
  unfold am_chk at h
  split at h
  · rename_i x hx
    have h1 := of_decide_eq_true h
    rw [h1] at hx
    exact hx
  · cases h
/-- a frame's kind, for what it answers alone -/
def dM (rk : Nat) : Mi := ([], 0, 0, rk, false, [], [])
theorem CT_ofV {l : Launch} {D : va_G} {dA : Nat → Nat} {md : Bool} {z0 fr lc : Nat} {q : Mq} {av : List Value} {σ σ1 : Sg} {v : Option Value} (hpl : plainFor q.1 = true) (hlen : (am_ent av).length ≤ q.2.2.1) (hc : cl σ1 = cl σ) (hs : gs σ1 = gs σ)
    (hG : ∀ (ad : Nat → Nat) (p : Program) (e : Env) (s : State) (m : MethodId) (below : List Frame) (meth : Method) (c : Code), EV p s m (av.map (mv ad)).toArray meth c q D dA z0 (SXc z0) ad → GL p l e (rmF fr lc σ (.inl v, σ1)) s m (av.map (mv ad)).toArray below meth c D dA md (AA z0) q.2.2.1 0 0 (vx_MQ below (Qret D dA md z0 ad σ (.inl v, σ1)) (Xthr D dA md z0 ad σ (.inl v, σ1)) (av.map (mv ad)).toArray s 0 0 (AA z0)) ad 0 (am_pad q.2.2.1 (am_ent av)) [] σ) : CT l D dA md z0 (SXc z0) fr lc q av σ (.inl v, σ1) := by
  refine CT_ofP hpl hlen ?_
  intro ad p e s m below meth c hE
  have e1 : cl (xt ((.inl v, σ1) : Ou × Sg)) - cl σ = 0 := by show cl σ1 - cl σ = 0; omega
  have e2 : gs (xt ((.inl v, σ1) : Ou × Sg)) - gs σ = 0 := by show gs σ1 - gs σ = 0; omega
  rw [e1, e2]
  exact hG ad p e s m below meth c hE
theorem SB_ext {D : va_G} {dA : Nat → Nat} {z0 : Nat} {ad ad1 : Nat → Nat} {σ : Sg} {s : State} (h : SB D dA z0 (SXc z0) ad s) (he : ext ad ad1 σ) : SB D dA z0 (SXc z0) ad1 s := ⟨h.1, h.2.1, h.2.2.1, (SXc_SXP z0).2.2 ad ad1 s (fun b hb => he b (Or.inr hb)) h.2.2.2⟩
section SNB
variable {p : Program} {l : Launch} {e : Env} {R : Room} {s : State} {m : MethodId} {args : Array Value} {below : List Frame} {meth : Method} {c : Code} {cells slots : Nat} {Q : State → Prop} {cc : ByteArray} {D : va_G} {dA : Nat → Nat} {md : Bool} {z0 : Nat} {nL : Nat} {ad ad0 : Nat → Nat} {pc : Nat} {L : Lo} {r : List Value} {σ σ0 σ1 : Sg} {own : String} {i n : Nat} {q : Mq} {fr lc b : Nat} {As : List Value} {v : Option Value}
theorem sn_gets {C n d : String} {w w1 : Value} {idx : Nat} (hx : p.tables.exec = Jvm.exec) (hb : c.code = cc) (ht : ∀ w ∈ lw_all, w.before args s = true) (hown : s.vm.findClass own = some m.cls) (hZ : va_Z C n d w (AA z0) s s.heap) (hlk : Cond.fieldLink own idx C n d ∈ lw_all) (hv : mv ad w1 = w) (hk : vok σ w1) (hd : decode cc pc = .ok (.getstatic idx, 3)) (k : GL p l e R s m args below meth c D dA md (AA z0) nL cells slots Q ad (pc + 3) L (w1 :: r) σ) : GL p l e R s m args below meth c D dA md (AA z0) nL cells slots Q ad pc L r σ := by
  intro H locs ls hW hL hV
  subst hv
  exact va_gets hx hb hZ hW.2.2.1 hown (ht _ hlk) (fun x hx => hx) hd (k H locs ls hW hL ⟨fqc hk hV.1, hV.2⟩)
theorem sn_gfS {o n d : String} {w w1 : Value} {idx a : Nat} (hx : p.tables.exec = Jvm.exec) (hb : c.code = cc) (ht : ∀ w ∈ lw_all, w.before args s = true) (hown : s.vm.findClass own = some m.cls) (hE : va_OF o n d w (ad a) (AA z0) s s.heap) (hlk : Cond.fieldLink own idx o n d ∈ lw_all) (hv : mv ad w1 = w) (hk : vok σ w1) (hd : decode cc pc = .ok (.getfield idx, 3)) (k : GL p l e R s m args below meth c D dA md (AA z0) nL cells slots Q ad (pc + 3) L (w1 :: r) σ) : GL p l e R s m args below meth c D dA md (AA z0) nL cells slots Q ad pc L (.ref a :: r) σ := by
  intro H locs ls hW hL hV
  subst hv
  exact vk_getf hx hb hE hW.2.2.1 hown (ht _ hlk) (fun x hx => hx) hd (k H locs ls hW hL ⟨fqc hk (fq1 hV.1), hV.2⟩)
theorem sn_tlen {ty : FieldType} {a N : Nat} {f : Nat → Value} (hx : p.tables.exec = Jvm.exec) (hb : c.code = cc) (hT : va_T ty (ad a) N f (AA z0) s s.heap) (hd : decode cc pc = .ok (.arraylength, 1)) (k : GL p l e R s m args below meth c D dA md (AA z0) nL cells slots Q ad (pc + 1) L (.int (Int32.ofNat N) :: r) σ) : GL p l e R s m args below meth c D dA md (AA z0) nL cells slots Q ad pc L (.ref a :: r) σ := by
  intro H locs ls hW hL hV
  exact va_tlen hx hb hT hW.2.2.1 rfl hd (k H locs ls hW hL ⟨fqc trivial (fq1 hV.1), hV.2⟩)
theorem sn_tb {a N : Nat} {g : Nat → Int32} {i : Int32} (hx : p.tables.exec = Jvm.exec) (hb : c.code = cc) (hT : va_T .byte (ad a) N (fun k => .int (g k)) (AA z0) s s.heap) (hi : inb i N) (hd : decode cc pc = .ok (.baload, 1)) (k : GL p l e R s m args below meth c D dA md (AA z0) nL cells slots Q ad (pc + 1) L (.int (g i.toNatClampNeg) :: r) σ) : GL p l e R s m args below meth c D dA md (AA z0) nL cells slots Q ad pc L (.int i :: .ref a :: r) σ := by
  intro H locs ls hW hL hV
  exact va_tb hx hb hT hW.2.2.1 (in_of hi) rfl hd (k H locs ls hW hL ⟨fqc trivial (fq2 hV.1), hV.2⟩)
/-- a static call that makes nothing -/
theorem sn_callS0 (hx : p.tables.exec = Jvm.exec) (hb : c.code = cc) (hml : c.maxLocals = nL) (ht : ∀ w ∈ lw_all, w.before args s = true) (hown : s.vm.findClass own = some m.cls) (hSB : SB D dA z0 (SXc z0) ad s) (hc : CALLS own i n q) (hn : As.length = n) (hM : CT l D dA md z0 (SXc z0) fr lc q As σ (.inl v, σ)) (hwd : am_wd r ≤ 8) (hd : decode cc pc = .ok (.invokestatic i, 3)) (hRf : fr + 1 ≤ R.frames) (hRl : lc + 64 ≤ R.locals) (hRc : cells ≤ R.cells) (hRs : slots ≤ R.slots)
    (kk : ∀ ad1, ext ad ad1 σ → GL p l e R s m args below meth c D dA md (AA z0) nL cells slots Q ad1 (pc + 3) L (am_pv v r) σ) : GL p l e R s m args below meth c D dA md (AA z0) nL cells slots Q ad pc L (As.reverse ++ r) σ := by
  have e1 : cl (xt ((.inl v, σ) : Ou × Sg)) - cl σ = 0 := by show cl σ - cl σ = 0; omega
  have e2 : gs (xt ((.inl v, σ) : Ou × Sg)) - gs σ = 0 := by show gs σ - gs σ = 0; omega
  refine sn_callS (o := (.inl v, σ)) hx hb hml ht hSB.2.2.1 hown (SXc_SXP z0) hSB hc hn hM (Nat.le_refl _) hwd hd hRf hRl (by rw [e1]; exact hRc) (by rw [e2]; exact hRs) (fun ec x ad1 h => (nomatch h)) (fun v1 ad1 h1 h2 => ?_)
  cases h1
  rw [e1, e2]
  exact kk ad1 h2
/-- what a call of a method of String asks -/
def CALLT (own : String) (i n : Nat) (q : Mq) : Prop := CALL0 n q ∧ q.1.cls = "java/lang/String" ∧ Cond.instanceMethod q.1 ∈ lw_all ∧ Cond.selects q.1.cls q.1 q.1 ∈ lw_all ∧ q.2.2.2.2 = [] ∧ Cond.methodLink own i q.1 ∈ lw_all
theorem sn_callT (hx : p.tables.exec = Jvm.exec) (hb : c.code = cc) (hml : c.maxLocals = nL) (ht : ∀ w ∈ lw_all, w.before args s = true) (hown : s.vm.findClass own = some m.cls) (hSB : SB D dA z0 (SXc z0) ad s) (hc : CALLT own i n q) (hO : va_O "java/lang/String" (ad b) (AA z0) s s.heap) (hn : As.length = n) (hM : CT l D dA md z0 (SXc z0) fr lc q (.ref b :: As) σ (.inl v, σ)) (hwd : am_wd r ≤ 8) (hd : decode cc pc = .ok (.invokevirtual i, 3)) (hRf : fr + 1 ≤ R.frames) (hRl : lc + 64 ≤ R.locals) (hRc : cells ≤ R.cells) (hRs : slots ≤ R.slots)
    (kk : ∀ ad1, ext ad ad1 σ → GL p l e R s m args below meth c D dA md (AA z0) nL cells slots Q ad1 (pc + 3) L (am_pv v r) σ) : GL p l e R s m args below meth c D dA md (AA z0) nL cells slots Q ad pc L (As.reverse ++ .ref b :: r) σ := by
  intro H locs ls hW hL hV
  have e1 : cl (xt ((.inl v, σ) : Ou × Sg)) - cl σ = 0 := by show cl σ - cl σ = 0; omega
  have e2 : gs (xt ((.inl v, σ) : Ou × Sg)) - gs σ = 0 := by show gs σ - gs σ = 0; omega
  have hV1 : VOK σ L r := ⟨fun v hv => hV.1 v (List.mem_append_right _ (List.mem_cons_of_mem _ hv)), hV.2⟩
  obtain ⟨⟨h45, hin, hdd, hwq⟩, hcl, hst, hs, hhh, hml2⟩ := hc
  have hG : GoodIn lw_all (wsq q) := wsq_good hwq
  have hR : (rmF fr lc σ (.inl v, σ)).frames + 1 ≤ R.frames ∧ 8 + (q.2.2.1 + 11) + (rmF fr lc σ (.inl v, σ)).locals ≤ R.locals := ⟨hRf, by show 8 + (q.2.2.1 + 11) + lc ≤ _; omega⟩
  have hstk : (F0 m pc ls ((As.reverse ++ .ref b :: r).map (mv ad))).stack = (As.map (mv ad)).reverse ++ .ref (ad b) :: r.map (mv ad) := by
    show (As.reverse ++ .ref b :: r).map (mv ad) = _
    rw [List.map_append, List.map_reverse]
    rfl
  have hwd2 : 2 * (F0 m pc ls ((As.reverse ++ .ref b :: r).map (mv ad))).monitorRoom + ((r.map (mv ad)).map fun v => v.category).sum ≤ 8 := by
    rw [wd_map]
    show 2 * 0 + _ ≤ _
    omega
  have hvk : ∀ v ∈ Value.ref b :: As, vok σ v := List.forall_mem_cons.mpr ⟨hV.1 _ (List.mem_append_right _ List.mem_cons_self), fun v hv => hV.1 v (List.mem_append_left _ (List.mem_reverse.mpr hv))⟩
  have hpp := pre_of (SXc_SXP z0) hSB hW (.ref (ad b) :: As.map (mv ad))
  obtain ⟨cell, g1, g2, g3, -⟩ := hO.kept hW.2.2.1.2.1
  have hpv : PreV s H q.1.cls (ad b) (va_Pc ((.ref b :: As).map (mv ad)) (fun U => SB D dA z0 (SXc z0) ad U ∧ HB D dA md z0 ad σ U.heap)) (As.map (mv ad)) := ⟨hpp.1, ⟨cell, g1, g2, by rw [hcl]; exact g3⟩, hpp.2⟩
  have hwe : wq q = Cond.code q.1 q.2.1 q.2.2.1 q.2.2.2.1 := by unfold wq; rw [hhh]
  refine sn_after (len := 3) (o := (.inl v, σ)) (mc := 0) (ms := 0) (a := (Value.ref (ad b) :: As.map (mv ad)).toArray) hW hL hV1 (Nat.le_refl _) ?_ (fun ec x ad1 h => (nomatch h)) (fun v1 ad1 h1 h2 => by cases h1; exact kk ad1 h2)
  have hM2 := hM hvk ad
  rw [e1, e2] at hM2
  exact vx_runV (Ts := lw_all) ⟨hx, hb, hml, hown, ht⟩ hM2 ⟨callB_of n ht hG (by unfold wsq; rw [hwe]) e1 e2 (ht _ hin) (ht _ hml2) hdd hR, ht _ hst, ht _ hs⟩ hpv rfl (by rw [List.length_map]; exact hn) hL.2.1 hstk hwd2 hd ⟨hRc, hRs⟩
/-- ends -/
theorem sn_retV {rk : Nat} {ret : Option FieldType} {x : Int32} (hx : p.tables.exec = Jvm.exec) (hb : c.code = cc) (hr : meth.sig.returnType = ret) (hrk : rkq rk ret) (hlocks : meth.locks = false) (hd : decode cc pc = .ok (.ireturn, 1)) (h1 : rk = 1 ∨ ((rk = 2 ∧ am_ok 3 x = true) ∨ (rk = 7 ∧ am_ok 4 x = true) ∨ (rk = 6 ∧ am_ok 5 x = true))) (he : ext ad0 ad σ0) : GL p l e R s m args below meth c D dA md (AA z0) nL cells slots (vx_MQ below (Qret D dA md z0 ad0 σ0 (.inl (some (.int x)), σ)) (Xthr D dA md z0 ad0 σ0 (.inl (some (.int x)), σ)) args s cells slots (AA z0)) ad pc L [.int x] σ :=
  sn_ret (M := dM rk) (ins := .ireturn) hx hb hr hrk hlocks hd (Or.inr (Or.inl ⟨rfl, x, rfl, rfl, h1⟩)) he
theorem sn_retN {ret : Option FieldType} (hx : p.tables.exec = Jvm.exec) (hb : c.code = cc) (hr : meth.sig.returnType = ret) (hrk : ret = none) (hlocks : meth.locks = false) (hd : decode cc pc = .ok (.return_, 1)) (he : ext ad0 ad σ0) : GL p l e R s m args below meth c D dA md (AA z0) nL cells slots (vx_MQ below (Qret D dA md z0 ad0 σ0 (.inl none, σ)) (Xthr D dA md z0 ad0 σ0 (.inl none, σ)) args s cells slots (AA z0)) ad pc L r σ :=
  sn_ret (M := dM 0) (ins := .return_) hx hb hr hrk hlocks hd (Or.inl ⟨rfl, rfl, rfl⟩) he
end SNB
/-! the methods of String -/
def mqCoder : Mq := (⟨"java/lang/String", "coder", "()B"⟩, prog_45_method_152_code, 1, some .byte, [])
def mqLen : Mq := (⟨"java/lang/String", "length", "()I"⟩, prog_45_method_54_code, 1, some .int, [])
def mqLat : Mq := (⟨"java/lang/String", "isLatin1", "()Z"⟩, prog_45_method_154_code, 1, some .boolean, [])
def mqLC : Mq := (⟨"java/lang/StringLatin1", "charAt", "([BI)C"⟩, prog_46_method_2_code, 2, some .char, [])
def mqSCI : Mq := (⟨"java/lang/String", "checkIndex", "(II)V"⟩, prog_45_method_155_code, 2, none, [])
def mqPCI : Mq := (⟨"jdk/internal/util/Preconditions", "checkIndex", "(IILjava/util/function/BiFunction;)I"⟩, prog_62_method_11_code, 3, some .int, [])
def mqCh : Mq := (⟨"java/lang/String", "charAt", "(I)C"⟩, prog_45_method_56_code, 2, some .char, [])
theorem q177 : (Jvm.Cond.initialized "java/lang/StringLatin1") ∈ lw_all := lw_g (lw_at lw_m1 35 rfl) rfl
theorem q1292 : (Jvm.Cond.methodLink "java/lang/String" (335 : Nat) ({ cls := "java/lang/String", name := "coder", desc := "()B" } : Jvm.MethodName)) ∈ lw_all := lw_g (lw_at lw_m5 190 rfl) rfl
theorem q1293 : (Jvm.Cond.instanceMethod ({ cls := "java/lang/String", name := "coder", desc := "()B" } : Jvm.MethodName)) ∈ lw_all := lw_g (lw_at lw_m5 191 rfl) rfl
theorem q1294 : (Jvm.Cond.selects "java/lang/String" ({ cls := "java/lang/String", name := "coder", desc := "()B" } : Jvm.MethodName) ({ cls := "java/lang/String", name := "coder", desc := "()B" } : Jvm.MethodName)) ∈ lw_all := lw_g (lw_at lw_m5 192 rfl) rfl
theorem q1295 : (Jvm.Cond.code ({ cls := "java/lang/String", name := "coder", desc := "()B" } : Jvm.MethodName) prog_45_method_152_code (1 : Nat) (Option.some Jvm.ClassFile.FieldType.byte)) ∈ lw_all := lw_g (lw_at lw_m5 193 rfl) rfl
theorem q1296 : (Jvm.Cond.fieldLink "java/lang/String" (38 : Nat) "java/lang/String" "COMPACT_STRINGS" "Z") ∈ lw_all := lw_g (lw_at lw_m5 194 rfl) rfl
theorem q1302 : (Jvm.Cond.methodLink "java/lang/String" (492 : Nat) ({ cls := "java/lang/String", name := "isLatin1", desc := "()Z" } : Jvm.MethodName)) ∈ lw_all := lw_g (lw_at lw_m5 200 rfl) rfl
theorem q1303 : (Jvm.Cond.instanceMethod ({ cls := "java/lang/String", name := "isLatin1", desc := "()Z" } : Jvm.MethodName)) ∈ lw_all := lw_g (lw_at lw_m5 201 rfl) rfl
theorem q1304 : (Jvm.Cond.selects "java/lang/String" ({ cls := "java/lang/String", name := "isLatin1", desc := "()Z" } : Jvm.MethodName) ({ cls := "java/lang/String", name := "isLatin1", desc := "()Z" } : Jvm.MethodName)) ∈ lw_all := lw_g (lw_at lw_m5 202 rfl) rfl
theorem q1305 : (Jvm.Cond.code ({ cls := "java/lang/String", name := "isLatin1", desc := "()Z" } : Jvm.MethodName) prog_45_method_154_code (1 : Nat) (Option.some Jvm.ClassFile.FieldType.boolean)) ∈ lw_all := lw_g (lw_at lw_m5 203 rfl) rfl
theorem q1306 : (Jvm.Cond.methodLink "java/lang/String" (495 : Nat) ({ cls := "java/lang/StringLatin1", name := "charAt", desc := "([BI)C" } : Jvm.MethodName)) ∈ lw_all := lw_g (lw_at lw_m5 204 rfl) rfl
theorem q1307 : (Jvm.Cond.static ({ cls := "java/lang/StringLatin1", name := "charAt", desc := "([BI)C" } : Jvm.MethodName)) ∈ lw_all := lw_g (lw_at lw_m5 205 rfl) rfl
theorem q1308 : (Jvm.Cond.code ({ cls := "java/lang/StringLatin1", name := "charAt", desc := "([BI)C" } : Jvm.MethodName) prog_46_method_2_code (2 : Nat) (Option.some Jvm.ClassFile.FieldType.char)) ∈ lw_all := lw_g (lw_at lw_m5 206 rfl) rfl
theorem q1309 : (Jvm.Cond.methodLink "java/lang/StringLatin1" (9 : Nat) ({ cls := "java/lang/String", name := "checkIndex", desc := "(II)V" } : Jvm.MethodName)) ∈ lw_all := lw_g (lw_at lw_m5 207 rfl) rfl
theorem q1310 : (Jvm.Cond.static ({ cls := "java/lang/String", name := "checkIndex", desc := "(II)V" } : Jvm.MethodName)) ∈ lw_all := lw_g (lw_at lw_m5 208 rfl) rfl
theorem q1311 : (Jvm.Cond.code ({ cls := "java/lang/String", name := "checkIndex", desc := "(II)V" } : Jvm.MethodName) prog_45_method_155_code (2 : Nat) (Option.none : Option Jvm.ClassFile.FieldType)) ∈ lw_all := lw_g (lw_at lw_m5 209 rfl) rfl
theorem q1312 : (Jvm.Cond.fieldLink "java/lang/String" (1053 : Nat) "jdk/internal/util/Preconditions" "SIOOBE_FORMATTER" "Ljava/util/function/BiFunction;") ∈ lw_all := lw_g (lw_at lw_m5 210 rfl) rfl
theorem q1314 : (Jvm.Cond.methodLink "java/lang/String" (1059 : Nat) ({ cls := "jdk/internal/util/Preconditions", name := "checkIndex", desc := "(IILjava/util/function/BiFunction;)I" } : Jvm.MethodName)) ∈ lw_all := lw_g (lw_at lw_m5 212 rfl) rfl
theorem q2914 : (Jvm.Cond.fieldLink "java/lang/String" (9 : Nat) "java/lang/String" "value" "[B") ∈ lw_all := lw_g (lw_at lw_m12 132 rfl) rfl
theorem q2915 : (Jvm.Cond.fieldLink "java/lang/String" (15 : Nat) "java/lang/String" "coder" "B") ∈ lw_all := lw_g (lw_at lw_m12 133 rfl) rfl
theorem ct_coder {l : Launch} {D : va_G} {dA : Nat → Nat} {md : Bool} {z0 : Nat} {σ : Sg} {j : Nat} (hj : j < am_stl.length) : CT l D dA md z0 (SXc z0) 0 0 mqCoder [.ref (1000000 + j)] σ (.inl (some (.int 0)), σ) := by
  refine CT_ofV (by decide +kernel) (Nat.le_of_ble_eq_true rfl) rfl rfl ?_
  intro ad p e s m below meth c hE
  have hX := hE.1
  have hB := hE.2.1
  have ht := hE.2.2.2.2.1
  have hO := hE.2.2.2.2.2.1
  have hlk := hE.2.2.2.2.2.2.1
  have hSB := hE.2.2.2.2.2.2.2.2.2
  have hS := hSB.2.2.2
  refine sn_gets (idx := 38) (w1 := .int 1) hX hB ht hO hS.2.2.1.2.2.1 q1296 rfl trivial (dec_ok (by decide +kernel)) ?_
  refine sn_ifc (cn := .eq) (x := 1) (off := 10) hX hB (dec_ok (by decide +kernel)) (by decide) ?_
  rw [show am_cnd .eq 1 0 (am_tg 3 10) (3 + 3) = 6 from rfl]
  refine sn_aload_n hX hB (n := 0) (dec_ok (by decide +kernel)) rfl ?_
  refine sn_gfS (idx := 15) (w1 := .int 0) hX hB ht hO (hS.2.1 j hj).2.1 q2915 rfl trivial (dec_ok (by decide +kernel)) ?_
  refine sn_goto (off := 4) hX hB (dec_ok (by decide +kernel)) (by decide) ?_
  rw [show am_tg 10 4 = 14 from rfl]
  exact sn_retV (rk := 7) hX hB hE.2.2.2.1 rfl hlk (dec_ok (by decide +kernel)) (Or.inr (Or.inr (Or.inl ⟨rfl, by decide⟩))) ext.rf
theorem ct_lat {l : Launch} {D : va_G} {dA : Nat → Nat} {md : Bool} {z0 : Nat} {σ : Sg} {j : Nat} (hj : j < am_stl.length) : CT l D dA md z0 (SXc z0) 0 0 mqLat [.ref (1000000 + j)] σ (.inl (some (.int 1)), σ) := by
  refine CT_ofV (by decide +kernel) (Nat.le_of_ble_eq_true rfl) rfl rfl ?_
  intro ad p e s m below meth c hE
  have hX := hE.1
  have hB := hE.2.1
  have ht := hE.2.2.2.2.1
  have hO := hE.2.2.2.2.2.1
  have hlk := hE.2.2.2.2.2.2.1
  have hSB := hE.2.2.2.2.2.2.2.2.2
  have hS := hSB.2.2.2
  refine sn_gets (idx := 38) (w1 := .int 1) hX hB ht hO hS.2.2.1.2.2.1 q1296 rfl trivial (dec_ok (by decide +kernel)) ?_
  refine sn_ifc (cn := .eq) (x := 1) (off := 14) hX hB (dec_ok (by decide +kernel)) (by decide) ?_
  rw [show am_cnd .eq 1 0 (am_tg 3 14) (3 + 3) = 6 from rfl]
  refine sn_aload_n hX hB (n := 0) (dec_ok (by decide +kernel)) rfl ?_
  refine sn_gfS (idx := 15) (w1 := .int 0) hX hB ht hO (hS.2.1 j hj).2.1 q2915 rfl trivial (dec_ok (by decide +kernel)) ?_
  refine sn_ifc (cn := .ne) (x := 0) (off := 7) hX hB (dec_ok (by decide +kernel)) (by decide) ?_
  rw [show am_cnd .ne 0 0 (am_tg 10 7) (10 + 3) = 13 from rfl]
  refine sn_iconst (n := 1) hX hB (dec_ok (by decide +kernel)) ?_
  refine sn_goto (off := 4) hX hB (dec_ok (by decide +kernel)) (by decide) ?_
  rw [show am_tg 14 4 = 18 from rfl]
  exact sn_retV (rk := 2) (x := 1) hX hB hE.2.2.2.1 rfl hlk (dec_ok (by decide +kernel)) (Or.inr (Or.inl ⟨rfl, by decide⟩)) ext.rf
theorem cc_coder : CALLT "java/lang/String" 335 0 mqCoder := ⟨⟨by decide, q169, ⟨by decide, by decide, by decide +kernel⟩, q1295⟩, rfl, q1293, q1294, rfl, q1292⟩
theorem cc_lat : CALLT "java/lang/String" 492 0 mqLat := ⟨⟨by decide, q169, ⟨by decide, by decide, by decide +kernel⟩, q1305⟩, rfl, q1303, q1304, rfl, q1302⟩
theorem shr0 (x : Int32) : x >>> ((0 : Int32) &&& 31) = x := by
  rw [show ((0 : Int32) &&& 31) = 0 by decide]
  exact Int32.shiftRight_zero
theorem ct_len {l : Launch} {D : va_G} {dA : Nat → Nat} {md : Bool} {z0 : Nat} {σ : Sg} {j : Nat} (hj : j < am_stl.length) : CT l D dA md z0 (SXc z0) 1 64 mqLen [.ref (1000000 + j)] σ (.inl (some (.int (Int32.ofNat (strT j).length))), σ) := by
  refine CT_ofV (by decide +kernel) (Nat.le_of_ble_eq_true rfl) rfl rfl ?_
  intro ad p e s m below meth c hE
  have hX := hE.1
  have hB := hE.2.1
  have ht := hE.2.2.2.2.1
  have hO := hE.2.2.2.2.2.1
  have hlk := hE.2.2.2.2.2.2.1
  have hSB := hE.2.2.2.2.2.2.2.2.2
  have hS := hSB.2.2.2
  refine sn_aload_n hX hB (n := 0) (dec_ok (by decide +kernel)) rfl ?_
  refine sn_gfS (idx := 9) (w1 := .ref (2000000 + j)) hX hB ht hO (hS.2.1 j hj).2.2.1 q2914 rfl (Or.inr (by omega)) (dec_ok (by decide +kernel)) ?_
  refine sn_tlen hX hB (hS.2.1 j hj).2.2.2 (dec_ok (by decide +kernel)) ?_
  refine sn_aload_n hX hB (n := 0) (dec_ok (by decide +kernel)) rfl ?_
  refine sn_callT (As := []) (i := 335) (own := "java/lang/String") (v := some (.int 0)) (fr := 0) (lc := 0) hX hB hE.2.2.1 ht hO hSB cc_coder (hS.2.1 j hj).1 rfl (ct_coder hj) (Nat.le_of_ble_eq_true rfl) (dec_ok (by decide +kernel)) (by show 0 + 1 ≤ 1; omega) (by show 0 + 64 ≤ 64; omega) (Nat.zero_le _) (Nat.zero_le _) (fun ad1 he => ?_)
  show GL p l e _ s m _ below meth c D dA md (AA z0) 1 0 0 _ ad1 9 _ [.int 0, .int (Int32.ofNat (strT j).length)] σ
  refine sn_ishr hX hB (dec_ok (by decide +kernel)) ?_
  rw [shr0]
  exact sn_retV (rk := 1) hX hB hE.2.2.2.1 rfl hlk (dec_ok (by decide +kernel)) (Or.inl rfl) he
theorem ct_pciN {l : Launch} {D : va_G} {dA : Nat → Nat} {md : Bool} {z0 : Nat} {σ : Sg} {i n : Int32} (h0 : ¬ i < 0) (h1 : i < n) : CT l D dA md z0 (SXc z0) 0 0 mqPCI [.int i, .int n, .null] σ (.inl (some (.int i)), σ) := by
  refine CT_ofV (by decide +kernel) (Nat.le_of_ble_eq_true rfl) rfl rfl ?_
  intro ad p e s m below meth c hE
  have hX := hE.1
  have hB := hE.2.1
  have ht := hE.2.2.2.2.1
  have hO := hE.2.2.2.2.2.1
  have hlk := hE.2.2.2.2.2.2.1
  have hSB := hE.2.2.2.2.2.2.2.2.2
  have hS := hSB.2.2.2
  refine sn_iload_n hX hB (n := 0) (dec_ok (by decide +kernel)) rfl ?_
  refine sn_ifc (cn := .lt) (x := i) (off := 8) hX hB (dec_ok (by decide +kernel)) (by decide) ?_
  rw [show am_cnd .lt i 0 (am_tg 1 8) (1 + 3) = 4 from if_neg h0]
  refine sn_iload_n hX hB (n := 0) (dec_ok (by decide +kernel)) rfl ?_
  refine sn_iload_n hX hB (n := 1) (dec_ok (by decide +kernel)) rfl ?_
  refine sn_icmpc (cn := .lt) (x := i) (y := n) (off := 10) hX hB (dec_ok (by decide +kernel)) (by decide) ?_
  rw [show am_cnd .lt i n (am_tg 6 10) (6 + 3) = 16 from if_pos h1]
  refine sn_iload_n hX hB (n := 0) (dec_ok (by decide +kernel)) rfl ?_
  exact sn_retV (rk := 1) hX hB hE.2.2.2.1 rfl hlk (dec_ok (by decide +kernel)) (Or.inl rfl) ext.rf
theorem ct_pciR {l : Launch} {D : va_G} {dA : Nat → Nat} {md : Bool} {z0 : Nat} {σ : Sg} {i n : Int32} (h0 : ¬ i < 0) (h1 : i < n) : CT l D dA md z0 (SXc z0) 0 0 mqPCI [.int i, .int n, .ref 3000000] σ (.inl (some (.int i)), σ) := by
  refine CT_ofV (by decide +kernel) (Nat.le_of_ble_eq_true rfl) rfl rfl ?_
  intro ad p e s m below meth c hE
  have hX := hE.1
  have hB := hE.2.1
  have ht := hE.2.2.2.2.1
  have hO := hE.2.2.2.2.2.1
  have hlk := hE.2.2.2.2.2.2.1
  have hSB := hE.2.2.2.2.2.2.2.2.2
  have hS := hSB.2.2.2
  refine sn_iload_n hX hB (n := 0) (dec_ok (by decide +kernel)) rfl ?_
  refine sn_ifc (cn := .lt) (x := i) (off := 8) hX hB (dec_ok (by decide +kernel)) (by decide) ?_
  rw [show am_cnd .lt i 0 (am_tg 1 8) (1 + 3) = 4 from if_neg h0]
  refine sn_iload_n hX hB (n := 0) (dec_ok (by decide +kernel)) rfl ?_
  refine sn_iload_n hX hB (n := 1) (dec_ok (by decide +kernel)) rfl ?_
  refine sn_icmpc (cn := .lt) (x := i) (y := n) (off := 10) hX hB (dec_ok (by decide +kernel)) (by decide) ?_
  rw [show am_cnd .lt i n (am_tg 6 10) (6 + 3) = 16 from if_pos h1]
  refine sn_iload_n hX hB (n := 0) (dec_ok (by decide +kernel)) rfl ?_
  exact sn_retV (rk := 1) hX hB hE.2.2.2.1 rfl hlk (dec_ok (by decide +kernel)) (Or.inl rfl) ext.rf
theorem cc_pci : CALLS "java/lang/String" 1059 3 mqPCI := ⟨⟨by decide, q173, ⟨by decide, by decide, by decide +kernel⟩, q1147⟩, q1146, rfl, Or.inl q1314⟩
theorem ct_sci {l : Launch} {D : va_G} {dA : Nat → Nat} {md : Bool} {z0 : Nat} {σ : Sg} {i n : Int32} (h0 : ¬ i < 0) (h1 : i < n) : CT l D dA md z0 (SXc z0) 1 64 mqSCI [.int i, .int n] σ (.inl none, σ) := by
  refine CT_ofV (by decide +kernel) (Nat.le_of_ble_eq_true rfl) rfl rfl ?_
  intro ad p e s m below meth c hE
  have hX := hE.1
  have hB := hE.2.1
  have ht := hE.2.2.2.2.1
  have hO := hE.2.2.2.2.2.1
  have hlk := hE.2.2.2.2.2.2.1
  have hSB := hE.2.2.2.2.2.2.2.2.2
  have hS := hSB.2.2.2
  refine sn_iload_n hX hB (n := 0) (dec_ok (by decide +kernel)) rfl ?_
  refine sn_iload_n hX hB (n := 1) (dec_ok (by decide +kernel)) rfl ?_
  rcases hS.2.2.1.2.2.2.1 with h | h
  · refine sn_gets (idx := 1053) (w1 := .null) hX hB ht hO h q1312 rfl trivial (dec_ok (by decide +kernel)) ?_
    refine sn_callS0 (As := [.int i, .int n, .null]) (i := 1059) (own := "java/lang/String") (v := some (.int i)) (fr := 0) (lc := 0) hX hB hE.2.2.1 ht hO hSB cc_pci rfl (ct_pciN h0 h1) (Nat.le_of_ble_eq_true rfl) (dec_ok (by decide +kernel)) (by show 0 + 1 ≤ 1; omega) (by show 0 + 64 ≤ 64; omega) (Nat.zero_le _) (Nat.zero_le _) (fun ad1 he => ?_)
    show GL p l e _ s m _ below meth c D dA md (AA z0) 2 0 0 _ ad1 8 _ [.int i] σ
    refine sn_pop hX hB (dec_ok (by decide +kernel)) rfl ?_
    exact sn_retN hX hB hE.2.2.2.1 rfl hlk (dec_ok (by decide +kernel)) he
  · refine sn_gets (idx := 1053) (w1 := .ref 3000000) hX hB ht hO h q1312 rfl (Or.inr (by omega)) (dec_ok (by decide +kernel)) ?_
    refine sn_callS0 (As := [.int i, .int n, .ref 3000000]) (i := 1059) (own := "java/lang/String") (v := some (.int i)) (fr := 0) (lc := 0) hX hB hE.2.2.1 ht hO hSB cc_pci rfl (ct_pciR h0 h1) (Nat.le_of_ble_eq_true rfl) (dec_ok (by decide +kernel)) (by show 0 + 1 ≤ 1; omega) (by show 0 + 64 ≤ 64; omega) (Nat.zero_le _) (Nat.zero_le _) (fun ad1 he => ?_)
    show GL p l e _ s m _ below meth c D dA md (AA z0) 2 0 0 _ ad1 8 _ [.int i] σ
    refine sn_pop hX hB (dec_ok (by decide +kernel)) rfl ?_
    exact sn_retN hX hB hE.2.2.2.1 rfl hlk (dec_ok (by decide +kernel)) he
theorem cc_sci : CALLS "java/lang/StringLatin1" 9 2 mqSCI := ⟨⟨by decide, q169, ⟨by decide, by decide, by decide +kernel⟩, q1311⟩, q1310, rfl, Or.inl q1309⟩
theorem str_asc : ∀ j, j < am_stl.length → ∀ k, (strT j).getD k 0 < 128 := by
  have h : ∀ q ∈ am_stl, ∀ x ∈ q.2, x < 128 := by decide +kernel
  intro j hj k
  have hm : am_stl.getD j (0, []) ∈ am_stl := by
    rw [List.getD_eq_getElem?_getD, List.getElem?_eq_getElem hj]
    exact List.getElem_mem hj
  rcases Nat.lt_or_ge k (strT j).length with hk | hk
  · have h2 : (strT j).getD k 0 ∈ strT j := by
      rw [List.getD_eq_getElem?_getD, List.getElem?_eq_getElem hk]
      exact List.getElem_mem hk
    exact h _ hm _ h2
  · rw [List.getD_eq_getElem?_getD, List.getElem?_eq_none hk]
    decide
theorem str_len : ∀ j, j < am_stl.length → (strT j).length < 100 := by
  have h : ∀ q ∈ am_stl, q.2.length < 100 := by decide +kernel
  intro j hj
  have hm : am_stl.getD j (0, []) ∈ am_stl := by
    rw [List.getD_eq_getElem?_getD, List.getElem?_eq_getElem hj]
    exact List.getElem_mem hj
  exact h _ hm
theorem asc_ok : ∀ c, c < 128 → ((((Int32.ofNat c) &&& (Int16.ofInt 255).toInt32).toUInt32 % 65536).toInt32 = Int32.ofNat c ∧ am_ok 5 (Int32.ofNat c) = true) := by decide +kernel
theorem inb_lt {i : Int32} {N : Nat} (hN : N < 100) (h : inb i N) : i < Int32.ofNat N := by
  have h2 := h.2
  rw [Int32.lt_iff_toInt_lt, Int32.toInt_ofNat_of_lt (by omega)]
  have h1 : ¬ i < 0 := h.1
  rw [Int32.lt_iff_toInt_lt] at h1
  have h3 : i.toInt.toNat = i.toNatClampNeg := rfl
  have h4 : (0 : Int32).toInt = 0 := rfl
  omega
theorem ct_lc {l : Launch} {D : va_G} {dA : Nat → Nat} {md : Bool} {z0 : Nat} {σ : Sg} {j : Nat} (hj : j < am_stl.length) {i : Int32} (hi : inb i (strT j).length) : CT l D dA md z0 (SXc z0) 2 128 mqLC [.ref (2000000 + j), .int i] σ (.inl (some (.int (Int32.ofNat ((strT j).getD i.toNatClampNeg 0)))), σ) := by
  refine CT_ofV (by decide +kernel) (Nat.le_of_ble_eq_true rfl) rfl rfl ?_
  intro ad p e s m below meth c hE
  have hX := hE.1
  have hB := hE.2.1
  have ht := hE.2.2.2.2.1
  have hO := hE.2.2.2.2.2.1
  have hlk := hE.2.2.2.2.2.2.1
  have hSB := hE.2.2.2.2.2.2.2.2.2
  have hS := hSB.2.2.2
  refine sn_iload_n hX hB (n := 1) (dec_ok (by decide +kernel)) rfl ?_
  refine sn_aload_n hX hB (n := 0) (dec_ok (by decide +kernel)) rfl ?_
  refine sn_tlen hX hB (hS.2.1 j hj).2.2.2 (dec_ok (by decide +kernel)) ?_
  refine sn_callS0 (As := [.int i, .int (Int32.ofNat (strT j).length)]) (i := 9) (own := "java/lang/StringLatin1") (v := none) (fr := 1) (lc := 64) hX hB hE.2.2.1 ht hO hSB cc_sci rfl (ct_sci hi.1 (inb_lt (str_len j hj) hi)) (Nat.le_of_ble_eq_true rfl) (dec_ok (by decide +kernel)) (by show 1 + 1 ≤ 2; omega) (by show 64 + 64 ≤ 128; omega) (Nat.zero_le _) (Nat.zero_le _) (fun ad1 he => ?_)
  have hS1 := (SB_ext hSB he).2.2.2
  show GL p l e _ s m _ below meth c D dA md (AA z0) 2 0 0 _ ad1 6 _ [] σ
  refine sn_aload_n hX hB (n := 0) (dec_ok (by decide +kernel)) rfl ?_
  refine sn_iload_n hX hB (n := 1) (dec_ok (by decide +kernel)) rfl ?_
  refine sn_tb hX hB (hS1.2.1 j hj).2.2.2 hi (dec_ok (by decide +kernel)) ?_
  refine sn_sipush (n := 255) hX hB (dec_ok (by decide +kernel)) ?_
  refine sn_iand hX hB (dec_ok (by decide +kernel)) ?_
  refine sn_i2c hX hB (dec_ok (by decide +kernel)) ?_
  have ha := asc_ok _ (str_asc j hj i.toNatClampNeg)
  rw [ha.1]
  exact sn_retV (rk := 6) hX hB hE.2.2.2.1 rfl hlk (dec_ok (by decide +kernel)) (Or.inr (Or.inr (Or.inr ⟨rfl, ha.2⟩))) he
theorem cc_lc : CALLS "java/lang/String" 495 2 mqLC := ⟨⟨by decide, q177, ⟨by decide, by decide, by decide +kernel⟩, q1308⟩, q1307, rfl, Or.inl q1306⟩
theorem ct_ch {l : Launch} {D : va_G} {dA : Nat → Nat} {md : Bool} {z0 : Nat} {σ : Sg} {j : Nat} (hj : j < am_stl.length) {i : Int32} (hi : inb i (strT j).length) : CT l D dA md z0 (SXc z0) 3 192 mqCh [.ref (1000000 + j), .int i] σ (.inl (some (.int (Int32.ofNat ((strT j).getD i.toNatClampNeg 0)))), σ) := by
  refine CT_ofV (by decide +kernel) (Nat.le_of_ble_eq_true rfl) rfl rfl ?_
  intro ad p e s m below meth c hE
  have hX := hE.1
  have hB := hE.2.1
  have ht := hE.2.2.2.2.1
  have hO := hE.2.2.2.2.2.1
  have hlk := hE.2.2.2.2.2.2.1
  have hSB := hE.2.2.2.2.2.2.2.2.2
  have hS := hSB.2.2.2
  refine sn_aload_n hX hB (n := 0) (dec_ok (by decide +kernel)) rfl ?_
  refine sn_callT (As := []) (i := 492) (own := "java/lang/String") (v := some (.int 1)) (fr := 0) (lc := 0) hX hB hE.2.2.1 ht hO hSB cc_lat (hS.2.1 j hj).1 rfl (ct_lat hj) (Nat.le_of_ble_eq_true rfl) (dec_ok (by decide +kernel)) (by show 0 + 1 ≤ 3; omega) (by show 0 + 64 ≤ 192; omega) (Nat.zero_le _) (Nat.zero_le _) (fun ad1 he => ?_)
  have hSB1 := SB_ext hSB he
  have hS1 := hSB1.2.2.2
  show GL p l e _ s m _ below meth c D dA md (AA z0) 2 0 0 _ ad1 4 _ [.int 1] σ
  refine sn_ifc (cn := .eq) (x := 1) (off := 12) hX hB (dec_ok (by decide +kernel)) (by decide) ?_
  rw [show am_cnd .eq 1 0 (am_tg 4 12) (4 + 3) = 7 from rfl]
  refine sn_aload_n hX hB (n := 0) (dec_ok (by decide +kernel)) rfl ?_
  refine sn_gfS (idx := 9) (w1 := .ref (2000000 + j)) hX hB ht hO (hS1.2.1 j hj).2.2.1 q2914 rfl (Or.inr (by omega)) (dec_ok (by decide +kernel)) ?_
  refine sn_iload_n hX hB (n := 1) (dec_ok (by decide +kernel)) rfl ?_
  refine sn_callS0 (As := [.ref (2000000 + j), .int i]) (i := 495) (own := "java/lang/String") (v := some (.int (Int32.ofNat ((strT j).getD i.toNatClampNeg 0)))) (fr := 2) (lc := 128) hX hB hE.2.2.1 ht hO hSB1 cc_lc rfl (ct_lc hj hi) (Nat.le_of_ble_eq_true rfl) (dec_ok (by decide +kernel)) (by show 2 + 1 ≤ 3; omega) (by show 128 + 64 ≤ 192; omega) (Nat.zero_le _) (Nat.zero_le _) (fun ad2 he2 => ?_)
  have ha := asc_ok _ (str_asc j hj i.toNatClampNeg)
  exact sn_retV (rk := 6) hX hB hE.2.2.2.1 rfl hlk (dec_ok (by decide +kernel)) (Or.inr (Or.inr (Or.inr ⟨rfl, ha.2⟩))) (he.tr (Nat.le_refl _) he2)
