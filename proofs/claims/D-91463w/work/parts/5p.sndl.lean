set_option maxRecDepth 100000
theorem q1001 : (Jvm.Cond.superclass "OldWeather$Log" "OldWeather$Word") ∈ lw_all := lw_g (lw_at lw_m4 139 rfl) rfl
theorem q1165 : (Jvm.Cond.declares ({ cls := "OldWeather$Bounds", name := "hasDegrees", desc := "()Z" } : Jvm.MethodName)) ∈ lw_tbl := lw_at lw_m5 63 rfl
theorem q1166 : (Jvm.Cond.selects "OldWeather$Log" ({ cls := "OldWeather$Bounds", name := "hasDegrees", desc := "()Z" } : Jvm.MethodName) ({ cls := "OldWeather$Log", name := "hasDegrees", desc := "()Z" } : Jvm.MethodName)) ∈ lw_all := lw_g (lw_at lw_m5 64 rfl) rfl
theorem q1167 : (Jvm.Cond.instanceMethod ({ cls := "OldWeather$Log", name := "hasDegrees", desc := "()Z" } : Jvm.MethodName)) ∈ lw_all := lw_g (lw_at lw_m5 65 rfl) rfl
theorem q1169 : (Jvm.Cond.instanceMethod ({ cls := "OldWeather$Bounds", name := "hasDegrees", desc := "()Z" } : Jvm.MethodName)) ∈ lw_all := lw_g (lw_at lw_m5 67 rfl) rfl
/-! SOUNDNESS 21: builtins: readings -/
def kdX (C : String) : MethodName := ⟨C, "kind", "()I"⟩
def mqKW : Mq := (kdX "OldWeather$Word", prog_29_method_2_code, 1, some .int, [])
def mqKG : Mq := (kdX "OldWeather$Gauge", prog_12_method_2_code, 1, some .int, [])
def mqKP : Mq := (kdX "OldWeather$Proxy", prog_18_method_2_code, 1, some .int, [])
def mqKC : Mq := (kdX "OldWeather$Copied", prog_6_method_2_code, 1, some .int, [])
def mqHL : Mq := (hdN "OldWeather$Log", prog_13_method_2_code, 1, some .boolean, [])
def mqHB : Mq := (hdN "OldWeather$Bounds", prog_2_method_1_code, 1, some .boolean, [])
/-- what a call of a method of another class than the receiver's asks of the callee -/
def CALU (q : Mq) : Prop := q.2.2.1 ≤ 45 ∧ wq q ∈ lw_all ∧ q.2.2.2.2 = []
section SNU0
variable {p : Program} {l : Launch} {e : Env} {R : Room} {s : State} {m : MethodId} {args : Array Value} {below : List Frame} {meth : Method} {c : Code} {cells slots : Nat} {Q : State → Prop} {cc : ByteArray} {D : va_G} {dA : Nat → Nat} {md : Bool} {z0 : Nat} {nL : Nat} {ad : Nat → Nat} {pc : Nat} {L : Lo} {r : List Value} {σ : Sg} {own C owner : String} {i fr lc b ck : Nat} {q : Mq} {v : Option Value} {x : MethodName}
theorem u0_run {H : Heap} {locs : List Loc} {ls : Array Slot} (hml : c.maxLocals = nL) (ht : ∀ w ∈ lw_all, w.before args s = true) (hSB : SB D dA z0 (SXc z0) ad s) (hck : (kdT md σ b).1 = ck) (h10 : 10 ≤ ck) (hqc : ∃ qc, CL[ck - 10]? = some qc ∧ qc.1 = C) (hu : CALU q) (hini : (Cond.initialized q.1.cls).before args s = true) (hM : CT l D dA md z0 (SXc z0) fr lc q [.ref b] σ (.inl v, σ)) (hRf : fr + 1 ≤ R.frames) (hRl : lc + 64 ≤ R.locals) (hRc : cells ≤ R.cells) (hRs : slots ≤ R.slots) (hW : WO D dA md (AA z0) s ad σ H locs) (hL : lvR ad L ls nL) (hV : VOK σ L (.ref b :: r))
    (call : ∀ (cellB : Cell), H[ad b]? = some cellB → cellB.vm.isStatics = false → s.vm.findClass C = some cellB.cls → (∃ kB, s.vm.classes[cellB.cls]? = some kB) → ∀ (T : State) (X : Stand p l e R s m args below meth c T locs cells slots) (hT : T.heap = H) {Pre : Pt → Array Value → Prop} {Post : Pt → Array Value → Option Value → Pt → Prop} {PostX : Pt → Array Value → Addr → Pt → Prop} (hK : vx_Back l R p e below s args q.1 3 8 Pre Post PostX) (hpre : ∀ vm₁, s.WarmedH vm₁ → Pre ⟨T.setVm vm₁, locs, cells, slots⟩ (Value.ref (ad b) :: []).toArray),
      (∃ (v : Option Value) (vm₁ : Vm) (B : Pt), s.WarmedH vm₁ ∧ Stand p l e R s m args below meth c B.U B.locs B.cells B.slots ∧ Post ⟨T.setVm vm₁, locs, cells, slots⟩ (Value.ref (ad b) :: []).toArray v B ∧
        ∀ target, Steps p.tables e below (B.U.setTop { (F0 m pc ls (.ref (ad b) :: r.map (mv ad))) with pc := pc + 3, stack := v.toList ++ r.map (mv ad) }) target → Steps p.tables e below (T.setTop (F0 m pc ls (.ref (ad b) :: r.map (mv ad)))) target) ∨
      (∃ (q : Addr) (vm₁ : Vm) (B : Pt), s.WarmedH vm₁ ∧ Stand p l e R s m args below meth c B.U B.locs B.cells B.slots ∧ PostX ⟨T.setVm vm₁, locs, cells, slots⟩ (Value.ref (ad b) :: []).toArray q B ∧
        Steps p.tables e below (T.setTop (F0 m pc ls (.ref (ad b) :: r.map (mv ad)))) ((B.U.setTop { (F0 m pc ls (.ref (ad b) :: r.map (mv ad))) with stack := r.map (mv ad) }).pushFrame (.throwing q))))
    (kk : ∀ ad1, ext ad ad1 σ → GL p l e R s m args below meth c D dA md (AA z0) nL cells slots Q ad1 (pc + 3) L (am_pv v r) σ) : W p l e R s m args below meth c H locs cells slots Q (F0 m pc ls (.ref (ad b) :: r.map (mv ad))) := by
  have e1 : cl (xt ((.inl v, σ) : Ou × Sg)) - cl σ = 0 := by show cl σ - cl σ = 0; omega
  have e2 : gs (xt ((.inl v, σ) : Ou × Sg)) - gs σ = 0 := by show gs σ - gs σ = 0; omega
  have hV1 : VOK σ L r := ⟨fq1 hV.1, hV.2⟩
  obtain ⟨h45, hwq, hhh⟩ := hu
  have hG : GoodIn lw_all (wsq q) := wsq_good hwq
  have hvk : ∀ v ∈ [Value.ref b], vok σ v := List.forall_mem_cons.mpr ⟨hV.1 _ List.mem_cons_self, (fun _ h => nomatch h)⟩
  have hpp := pre_of (SXc_SXP z0) hSB hW [.ref (ad b)]
  have hbl := hW.2.2.2.lt (a := b) (by omega)
  have hat := (e_at (ad := ad) (dA := dA) (md := md) hbl).trans (by rw [e_o (by omega), hck])
  obtain ⟨qc, hqc1, hqc2⟩ := hqc
  have hrec := va_recv hSB.2.1 hW.1 hqc1 hat
  rw [hqc2] at hrec
  have hpv : PreV s H C (ad b) (va_Pc ([Value.ref b].map (mv ad)) (fun U => SB D dA z0 (SXc z0) ad U ∧ HB D dA md z0 ad σ U.heap)) [] := ⟨hpp.1, hrec, hpp.2⟩
  have hwe : wq q = Cond.code q.1 q.2.1 q.2.2.1 q.2.2.2.1 := by unfold wq; rw [hhh]
  refine sn_after (len := 3) (o := (.inl v, σ)) (mc := 0) (ms := 0) (a := ([Value.ref (ad b)] : List Value).toArray) hW hL hV1 (Nat.le_refl _) ?_ (fun ec x ad1 h => (nomatch h)) (fun v1 ad1 h1 h2 => by cases h1; exact kk ad1 h2)
  have hM2 := hM hvk ad
  rw [e1, e2] at hM2
  obtain ⟨cellB, g1, g2, g3⟩ := hrec
  obtain ⟨kB, hkB, -⟩ := Vm.findClass_spec g3
  exact vx_runG (bytes := q.2.1) (maxL := q.2.2.1) (ret := q.2.2.2.1) (g := F0 m pc ls (.ref (ad b) :: r.map (mv ad))) hM2 ⟨e1, e2, hRf, by show 8 + (q.2.2.1 + 11) + lc ≤ _; omega, pay_in ht hG, by rw [← hwe]; exact List.mem_cons_self⟩ hini hpv ⟨hRc, hRs⟩ (fun T X hT {_ _ _} hK hpre => call cellB g1 g2 g3 ⟨kB, hkB⟩ T X hT hK hpre)
/-- a virtual call that lands in a method of a class, or in a default -/
theorem sn_callU0 (hx : p.tables.exec = Jvm.exec) (hb : c.code = cc) (hml : c.maxLocals = nL) (ht : ∀ w ∈ lw_all, w.before args s = true) (hown : s.vm.findClass own = some m.cls) (hSB : SB D dA z0 (SXc z0) ad s) (hck : (kdT md σ b).1 = ck) (h10 : 10 ≤ ck) (hqc : ∃ qc, CL[ck - 10]? = some qc ∧ qc.1 = C) (hu : CALU q) (hini : (Cond.initialized q.1.cls).before args s = true) (hlink : (Cond.methodLink own i x).before args s = true) (hsame : (Cond.sameMethod x.cls owner x.name x.desc).before args s = true) (hdecl : (Cond.declares ⟨owner, x.name, x.desc⟩).before args s = true) (hMH : owner ≠ "java/lang/invoke/MethodHandle" ∧ owner ≠ "java/lang/invoke/VarHandle") (hpar : ∀ sig, parseMethodDescriptor x.desc = some sig → 0 = sig.parameters.length) (hinst : (Cond.instanceMethod q.1).before args s = true) (hsel : (Cond.selects C x q.1).before args s = true ∨ (Cond.landsInDefault C x q.1).before args s = true) (hM : CT l D dA md z0 (SXc z0) fr lc q [.ref b] σ (.inl v, σ)) (hwd : am_wd r ≤ 8) (hd : decode cc pc = .ok (.invokevirtual i, 3)) (hRf : fr + 1 ≤ R.frames) (hRl : lc + 64 ≤ R.locals) (hRc : cells ≤ R.cells) (hRs : slots ≤ R.slots)
    (kk : ∀ ad1, ext ad ad1 σ → GL p l e R s m args below meth c D dA md (AA z0) nL cells slots Q ad1 (pc + 3) L (am_pv v r) σ) : GL p l e R s m args below meth c D dA md (AA z0) nL cells slots Q ad pc L (.ref b :: r) σ := by
  intro H locs ls hW hL hV
  have hwd2 : 2 * (F0 m pc ls ((.ref b :: r).map (mv ad))).monitorRoom + ((r.map (mv ad)).map fun v => v.category).sum ≤ 8 := by
    rw [wd_map]
    show 2 * 0 + _ ≤ _
    omega
  obtain ⟨h45, hwq, hhh⟩ := hu
  have hwe : wq q = Cond.code q.1 q.2.1 q.2.2.1 q.2.2.2.1 := by unfold wq; rw [hhh]
  refine u0_run (C := C) hml ht hSB hck h10 hqc ⟨h45, hwq, hhh⟩ hini hM hRf hRl hRc hRs hW hL hV ?_ kk
  intro cellB g1 g2 g3 hkB T X hT Pre Post PostX hK hpre
  rcases hsel with hsel | hsel
  · exact vx_callVU X hx (C := C) (owner := owner) (x := x) (bytes := q.2.1) (maxL := q.2.2.1) (ret := q.2.2.2.1) hown hlink hsame (va_Decl.abs (va_Nw.of rfl hdecl)) hMH hsel hinst (by rw [← hwe]; exact ht _ hwq) hK (by rw [hT]; exact g1) g2 g3 (g := F0 m pc ls (.ref (ad b) :: r.map (mv ad))) rfl (hL.2.1.trans hml.symm) (argsL := []) (rest := r.map (mv ad)) hpar rfl hwd2 (by rw [hb]; exact hd) hpre
  · exact vx_callUD X hx (C := C) (owner := owner) (x := x) (bytes := q.2.1) (maxL := q.2.2.1) (ret := q.2.2.2.1) hown hlink hsame (va_Decl.abs (va_Nw.of rfl hdecl)) hMH hsel hinst hK (by rw [hT]; exact g1) g2 g3 (g := F0 m pc ls (.ref (ad b) :: r.map (mv ad))) rfl (hL.2.1.trans hml.symm) (argsL := []) (rest := r.map (mv ad)) hpar rfl hwd2 (by rw [hb]; exact hd) hpre
theorem sn_callSD0 (hx : p.tables.exec = Jvm.exec) (hb : c.code = cc) (hml : c.maxLocals = nL) (ht : ∀ w ∈ lw_all, w.before args s = true) (hown : s.vm.findClass own = some m.cls) (hSB : SB D dA z0 (SXc z0) ad s) (hck : (kdT md σ b).1 = ck) (h10 : 10 ≤ ck) (hqc : ∃ qc, CL[ck - 10]? = some qc ∧ qc.1 = C) (hu : CALU q) (hini : (Cond.initialized q.1.cls).before args s = true) (hlink : (Cond.methodLink own i x).before args s = true) (hsame : (Cond.sameMethod x.cls owner x.name x.desc).before args s = true) (hsup : (Cond.superclass own x.cls).before args s = true) (hy : q.1 = ⟨owner, x.name, x.desc⟩) (hno : x.name ≠ "<init>") (hpar : ∀ sig, parseMethodDescriptor q.1.desc = some sig → 0 = sig.parameters.length) (hinst : (Cond.instanceMethod q.1).before args s = true) (hsel : (Cond.landsInDefault x.cls x q.1).before args s = true) (hM : CT l D dA md z0 (SXc z0) fr lc q [.ref b] σ (.inl v, σ)) (hwd : am_wd r ≤ 8) (hd : decode cc pc = .ok (.invokespecial i, 3)) (hRf : fr + 1 ≤ R.frames) (hRl : lc + 64 ≤ R.locals) (hRc : cells ≤ R.cells) (hRs : slots ≤ R.slots)
    (kk : ∀ ad1, ext ad ad1 σ → GL p l e R s m args below meth c D dA md (AA z0) nL cells slots Q ad1 (pc + 3) L (am_pv v r) σ) : GL p l e R s m args below meth c D dA md (AA z0) nL cells slots Q ad pc L (.ref b :: r) σ := by
  intro H locs ls hW hL hV
  have hwd2 : 2 * (F0 m pc ls ((.ref b :: r).map (mv ad))).monitorRoom + ((r.map (mv ad)).map fun v => v.category).sum ≤ 8 := by
    rw [wd_map]
    show 2 * 0 + _ ≤ _
    omega
  obtain ⟨h45, hwq, hhh⟩ := hu
  have hwe : wq q = Cond.code q.1 q.2.1 q.2.2.1 q.2.2.2.1 := by unfold wq; rw [hhh]
  have hsig : ∃ (r0 : MethodId) (r : Method), s.methodNamed? q.1 = some r0 ∧ s.vm.method? r0 = some r ∧ parseMethodDescriptor q.1.desc = some r.sig := by
    obtain ⟨mk, methM, hnamed, hmethM, -, -⟩ := Cond.instanceMethod_spec hinst
    obtain ⟨methM', cM, hmethM', -, -, -, -, -, -, hsigM⟩ := Cond.code_spec hnamed (by rw [← hwe]; exact ht _ hwq)
    cases hmethM.symm.trans hmethM'
    exact ⟨mk, methM, hnamed, hmethM, hsigM⟩
  refine u0_run (C := C) hml ht hSB hck h10 hqc ⟨h45, hwq, hhh⟩ hini hM hRf hRl hRc hRs hW hL hV ?_ kk
  intro cellB g1 g2 g3 hkB T X hT Pre Post PostX hK hpre
  obtain ⟨kB, hkB⟩ := hkB
  exact vx_callSD X hx (owner := owner) (x := x) hown hlink hsame hsup hy hsel hinst hsig hno hK (by rw [hT]; exact g1) g2 hkB (g := F0 m pc ls (.ref (ad b) :: r.map (mv ad))) rfl (hL.2.1.trans hml.symm) (argsL := []) (rest := r.map (mv ad)) hpar rfl hwd2 (by rw [hb]; exact hd) hpre
end SNU0
theorem ct_hb {l : Launch} {D : va_G} {dA : Nat → Nat} {md : Bool} {z0 : Nat} {σ : Sg} {b : Nat} : CT l D dA md z0 (SXc z0) 0 0 mqHB [.ref b] σ (.inl (some (.int 1)), σ) := by
  refine CT_ofV (by decide +kernel) (Nat.le_of_ble_eq_true rfl) rfl rfl ?_
  intro ad p e s m below meth c hE
  have hX := hE.1
  have hB := hE.2.1
  have ht := hE.2.2.2.2.1
  have hO := hE.2.2.2.2.2.1
  have hlk := hE.2.2.2.2.2.2.1
  have hSB := hE.2.2.2.2.2.2.2.2.2
  have hS := hSB.2.2.2
  refine sn_iconst (n := 1) hX hB (dec_ok (by decide +kernel)) ?_
  exact sn_retV (rk := 2) (x := 1) hX hB hE.2.2.2.1 rfl hlk (dec_ok (by decide +kernel)) (Or.inr (Or.inl ⟨rfl, by decide⟩)) ext.rf
theorem ct_kGauge {l : Launch} {D : va_G} {dA : Nat → Nat} {md : Bool} {z0 : Nat} {σ : Sg} {b : Nat} : CT l D dA md z0 (SXc z0) 0 0 mqKG [.ref b] σ (.inl (some (.int 1)), σ) := by
  refine CT_ofV (by decide +kernel) (Nat.le_of_ble_eq_true rfl) rfl rfl ?_
  intro ad p e s m below meth c hE
  have hX := hE.1
  have hB := hE.2.1
  have ht := hE.2.2.2.2.1
  have hO := hE.2.2.2.2.2.1
  have hlk := hE.2.2.2.2.2.2.1
  have hSB := hE.2.2.2.2.2.2.2.2.2
  have hS := hSB.2.2.2
  refine sn_iconst (n := 1) hX hB (dec_ok (by decide +kernel)) ?_
  exact sn_retV (rk := 1) (x := 1) hX hB hE.2.2.2.1 rfl hlk (dec_ok (by decide +kernel)) (Or.inl rfl) ext.rf
theorem ct_kProxy {l : Launch} {D : va_G} {dA : Nat → Nat} {md : Bool} {z0 : Nat} {σ : Sg} {b : Nat} : CT l D dA md z0 (SXc z0) 0 0 mqKP [.ref b] σ (.inl (some (.int 3)), σ) := by
  refine CT_ofV (by decide +kernel) (Nat.le_of_ble_eq_true rfl) rfl rfl ?_
  intro ad p e s m below meth c hE
  have hX := hE.1
  have hB := hE.2.1
  have ht := hE.2.2.2.2.1
  have hO := hE.2.2.2.2.2.1
  have hlk := hE.2.2.2.2.2.2.1
  have hSB := hE.2.2.2.2.2.2.2.2.2
  have hS := hSB.2.2.2
  refine sn_iconst (n := 3) hX hB (dec_ok (by decide +kernel)) ?_
  exact sn_retV (rk := 1) (x := 3) hX hB hE.2.2.2.1 rfl hlk (dec_ok (by decide +kernel)) (Or.inl rfl) ext.rf
theorem ct_kCopied {l : Launch} {D : va_G} {dA : Nat → Nat} {md : Bool} {z0 : Nat} {σ : Sg} {b : Nat} : CT l D dA md z0 (SXc z0) 0 0 mqKC [.ref b] σ (.inl (some (.int 4)), σ) := by
  refine CT_ofV (by decide +kernel) (Nat.le_of_ble_eq_true rfl) rfl rfl ?_
  intro ad p e s m below meth c hE
  have hX := hE.1
  have hB := hE.2.1
  have ht := hE.2.2.2.2.1
  have hO := hE.2.2.2.2.2.1
  have hlk := hE.2.2.2.2.2.2.1
  have hSB := hE.2.2.2.2.2.2.2.2.2
  have hS := hSB.2.2.2
  refine sn_iconst (n := 4) hX hB (dec_ok (by decide +kernel)) ?_
  exact sn_retV (rk := 1) (x := 4) hX hB hE.2.2.2.1 rfl hlk (dec_ok (by decide +kernel)) (Or.inl rfl) ext.rf
theorem cu_hb : CALU mqHB := ⟨by decide, q1170, rfl⟩
theorem cu_hl : CALU mqHL := ⟨by decide, q1168, rfl⟩
theorem cu_mqKW : CALU mqKW := ⟨by decide, q1164, rfl⟩
theorem cu_mqKG : CALU mqKG := ⟨by decide, q1161, rfl⟩
theorem cu_mqKP : CALU mqKP := ⟨by decide, q1175, rfl⟩
theorem cu_mqKC : CALU mqKC := ⟨by decide, q1158, rfl⟩
theorem ld_any {C : String} {x y : MethodName} {A A' : Array Value} {U : State} (h : (Cond.landsInDefault C x y).before A U = true) : (Cond.landsInDefault C x y).before A' U = true := by
  simp only [Cond.before, Cond.holds, Cond.value] at h ⊢
  exact h
theorem par0 {d : String} {n : Nat} (h : (parseMethodDescriptor d).map (fun z => z.parameters.length) = some n) : ∀ sig, parseMethodDescriptor d = some sig → n = sig.parameters.length := by
  intro sig hs
  rw [hs] at h
  exact (Option.some.inj h).symm
theorem ct_hl {l : Launch} {D : va_G} {dA : Nat → Nat} {md : Bool} {z0 : Nat} {σ : Sg} {b : Nat} (hk : (kdT md σ b).1 = 19) : CT l D dA md z0 (SXc z0) 1 64 mqHL [.ref b] σ (.inl (some (.int 0)), σ) := by
  refine CT_ofV (by decide +kernel) (Nat.le_of_ble_eq_true rfl) rfl rfl ?_
  intro ad p e s m below meth c hE
  have hX := hE.1
  have hB := hE.2.1
  have ht := hE.2.2.2.2.1
  have hO := hE.2.2.2.2.2.1
  have hlk := hE.2.2.2.2.2.2.1
  have hSB := hE.2.2.2.2.2.2.2.2.2
  have hS := hSB.2.2.2
  refine sn_aload_n hX hB (n := 0) (dec_ok (by decide +kernel)) rfl ?_
  refine sn_callSD0 (C := "OldWeather$Log") (owner := "OldWeather$Bounds") (x := hdN "OldWeather$Word") (q := mqHB) (i := 7) (own := "OldWeather$Log") (ck := 19) (v := some (.int 1)) (fr := 0) (lc := 0) hX hB hE.2.2.1 ht hO hSB hk (by omega) ⟨_, rfl, rfl⟩ cu_hb (ht _ q2864) (va_any rfl (hS.2.2.2.2.2.2.1.1 _ (List.mem_of_getElem? (i := 2) rfl))) (va_any rfl (hS.2.2.2.2.2.2.1.1 _ (List.mem_of_getElem? (i := 1) rfl))) (ht _ q1001) rfl (by decide) (par0 (by decide +kernel)) (ht _ q1169) (ld_any (hS.2.2.2.2.2.2.1.2 ("OldWeather$Word", "OldWeather$Word") (by decide))) ct_hb (Nat.le_of_ble_eq_true rfl) (dec_ok (by decide +kernel)) (by show 0 + 1 ≤ 1; omega) (by show 0 + 64 ≤ 64; omega) (Nat.zero_le _) (Nat.zero_le _) (fun ad1 he => ?_)
  show GL p l e _ s m _ below meth c D dA md (AA z0) 1 0 0 _ ad1 4 _ [.int 1] σ
  refine sn_ifc (cn := .ne) (x := 1) (off := 7) hX hB (dec_ok (by decide +kernel)) (by decide) ?_
  rw [show am_cnd .ne 1 0 (am_tg 4 7) (4 + 3) = 11 from rfl]
  refine sn_iconst (n := 0) hX hB (dec_ok (by decide +kernel)) ?_
  exact sn_retV (rk := 2) (x := 0) hX hB hE.2.2.2.1 rfl hlk (dec_ok (by decide +kernel)) (Or.inr (Or.inl ⟨rfl, by decide⟩)) he
theorem ct_kw {l : Launch} {D : va_G} {dA : Nat → Nat} {md : Bool} {z0 : Nat} {σ : Sg} {b : Nat} (hk : (kdT md σ b).1 = 17) : CT l D dA md z0 (SXc z0) 2 128 mqKW [.ref b] σ (.inl (some (.int 0)), σ) := by
  refine CT_ofV (by decide +kernel) (Nat.le_of_ble_eq_true rfl) rfl rfl ?_
  intro ad p e s m below meth c hE
  have hX := hE.1
  have hB := hE.2.1
  have ht := hE.2.2.2.2.1
  have hO := hE.2.2.2.2.2.1
  have hlk := hE.2.2.2.2.2.2.1
  have hSB := hE.2.2.2.2.2.2.2.2.2
  have hS := hSB.2.2.2
  refine sn_aload_n hX hB (n := 0) (dec_ok (by decide +kernel)) rfl ?_
  refine sn_callU0 (C := "OldWeather$Word") (owner := "OldWeather$Bounds") (x := hdN "OldWeather$Word") (q := mqHB) (i := 9) (own := "OldWeather$Word") (ck := 17) (v := some (.int 1)) (fr := 0) (lc := 0) hX hB hE.2.2.1 ht hO hSB hk (by omega) ⟨_, rfl, rfl⟩ cu_hb (ht _ q2864) (va_any rfl (hS.2.2.2.2.2.2.1.1 _ (List.mem_of_getElem? (i := 0) rfl))) (va_any rfl (hS.2.2.2.2.2.2.1.1 _ (List.mem_of_getElem? (i := 1) rfl))) (atN hSB.2.2.1 q1165 rfl) ⟨by decide, by decide⟩ (par0 (by decide +kernel)) (ht _ q1169) (Or.inr (ld_any (hS.2.2.2.2.2.2.1.2 ("OldWeather$Word", "OldWeather$Word") (by decide)))) ct_hb (Nat.le_of_ble_eq_true rfl) (dec_ok (by decide +kernel)) (by show 0 + 1 ≤ 2; omega) (by show 0 + 64 ≤ 128; omega) (Nat.zero_le _) (Nat.zero_le _) (fun ad1 he => ?_)
  show GL p l e _ s m _ below meth c D dA md (AA z0) 1 0 0 _ ad1 4 _ [.int 1] σ
  refine sn_ifc (cn := .eq) (x := 1) (off := 7) hX hB (dec_ok (by decide +kernel)) (by decide) ?_
  rw [show am_cnd .eq 1 0 (am_tg 4 7) (4 + 3) = 7 from rfl]
  refine sn_iconst (n := 0) hX hB (dec_ok (by decide +kernel)) ?_
  refine sn_goto (off := 4) hX hB (dec_ok (by decide +kernel)) (by decide) ?_
  rw [show am_tg 8 4 = 12 from rfl]
  exact sn_retV (rk := 1) (x := 0) hX hB hE.2.2.2.1 rfl hlk (dec_ok (by decide +kernel)) (Or.inl rfl) he
theorem sel_log {A : Array Value} {s : State} {C owner name desc ref : String} {y : MethodName} (hsame : (Cond.sameMethod ref owner name desc).before A s = true) (hMH : owner ≠ "java/lang/invoke/MethodHandle" ∧ owner ≠ "java/lang/invoke/VarHandle") (hsel : (Cond.selects C ⟨owner, name, desc⟩ y).before A s = true) : (Cond.selects C ⟨ref, name, desc⟩ y).before A s = true := by
  obtain ⟨cn, ck, r1, hcn, hck, hni, hf, hn1⟩ := Cond.sameMethod_found hsame
  have hf2 : s.methodFound? owner name desc = some r1 := State.methodFound?_of_named (x := ⟨owner, name, desc⟩) hn1 hMH
  simp only [Cond.before, Cond.holds, Cond.value, hf, hf2] at hsel ⊢
  exact hsel
theorem ct_kl {l : Launch} {D : va_G} {dA : Nat → Nat} {md : Bool} {z0 : Nat} {σ : Sg} {b : Nat} (hk : (kdT md σ b).1 = 19) : CT l D dA md z0 (SXc z0) 2 128 mqKW [.ref b] σ (.inl (some (.int 2)), σ) := by
  refine CT_ofV (by decide +kernel) (Nat.le_of_ble_eq_true rfl) rfl rfl ?_
  intro ad p e s m below meth c hE
  have hX := hE.1
  have hB := hE.2.1
  have ht := hE.2.2.2.2.1
  have hO := hE.2.2.2.2.2.1
  have hlk := hE.2.2.2.2.2.2.1
  have hSB := hE.2.2.2.2.2.2.2.2.2
  have hS := hSB.2.2.2
  refine sn_aload_n hX hB (n := 0) (dec_ok (by decide +kernel)) rfl ?_
  refine sn_callU0 (C := "OldWeather$Log") (owner := "OldWeather$Bounds") (x := hdN "OldWeather$Word") (q := mqHL) (i := 9) (own := "OldWeather$Word") (ck := 19) (v := some (.int 0)) (fr := 1) (lc := 64) hX hB hE.2.2.1 ht hO hSB hk (by omega) ⟨_, rfl, rfl⟩ cu_hl (ht _ q163) (va_any rfl (hS.2.2.2.2.2.2.1.1 _ (List.mem_of_getElem? (i := 0) rfl))) (va_any rfl (hS.2.2.2.2.2.2.1.1 _ (List.mem_of_getElem? (i := 1) rfl))) (atN hSB.2.2.1 q1165 rfl) ⟨by decide, by decide⟩ (par0 (by decide +kernel)) (ht _ q1167) (Or.inl (sel_log (ref := "OldWeather$Word") (owner := "OldWeather$Bounds") (va_any rfl (hS.2.2.2.2.2.2.1.1 _ (List.mem_of_getElem? (i := 1) rfl))) ⟨by decide, by decide⟩ (ht _ q1166))) (ct_hl hk) (Nat.le_of_ble_eq_true rfl) (dec_ok (by decide +kernel)) (by show 1 + 1 ≤ 2; omega) (by show 64 + 64 ≤ 128; omega) (Nat.zero_le _) (Nat.zero_le _) (fun ad1 he => ?_)
  show GL p l e _ s m _ below meth c D dA md (AA z0) 1 0 0 _ ad1 4 _ [.int 0] σ
  refine sn_ifc (cn := .eq) (x := 0) (off := 7) hX hB (dec_ok (by decide +kernel)) (by decide) ?_
  rw [show am_cnd .eq 0 0 (am_tg 4 7) (4 + 3) = 11 from rfl]
  refine sn_iconst (n := 2) hX hB (dec_ok (by decide +kernel)) ?_
  exact sn_retV (rk := 1) (x := 2) hX hB hE.2.2.2.1 rfl hlk (dec_ok (by decide +kernel)) (Or.inl rfl) he
