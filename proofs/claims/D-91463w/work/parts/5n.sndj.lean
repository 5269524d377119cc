set_option maxRecDepth 100000
theorem q413 : (Jvm.Cond.methodLink "java/lang/Exception" (16 : Nat) ({ cls := "java/lang/Throwable", name := "<init>", desc := "(Ljava/lang/String;Ljava/lang/Throwable;ZZ)V" } : Jvm.MethodName)) ∈ lw_all := lw_g (lw_at lw_m2 31 rfl) rfl
theorem q414 : (Jvm.Cond.instanceMethod ({ cls := "java/lang/Throwable", name := "<init>", desc := "(Ljava/lang/String;Ljava/lang/Throwable;ZZ)V" } : Jvm.MethodName)) ∈ lw_all := lw_g (lw_at lw_m2 32 rfl) rfl
theorem q415 : (Jvm.Cond.code ({ cls := "java/lang/Throwable", name := "<init>", desc := "(Ljava/lang/String;Ljava/lang/Throwable;ZZ)V" } : Jvm.MethodName) prog_49_method_5_code (5 : Nat) (Option.none : Option Jvm.ClassFile.FieldType)) ∈ lw_all := lw_g (lw_at lw_m2 33 rfl) rfl
def mqT4 : Mq := (⟨"java/lang/Throwable", "<init>", "(Ljava/lang/String;Ljava/lang/Throwable;ZZ)V"⟩, prog_49_method_5_code, 5, none, [])
def mqE4 : Mq := (⟨"java/lang/Exception", "<init>", "(Ljava/lang/String;Ljava/lang/Throwable;ZZ)V"⟩, prog_38_method_5_code, 5, none, [])
def mqMin : Mq := (⟨"java/lang/Math", "min", "(II)I"⟩, prog_43_method_69_code, 2, some .int, [])
def mqC3 : Mq := (⟨"java/util/Arrays", "copyOf", "([Ljava/lang/Object;ILjava/lang/Class;)[Ljava/lang/Object;"⟩, prog_55_method_120_code, 4, some (.array (.object "java/lang/Object")), [])
def mqC2 : Mq := (⟨"java/util/Arrays", "copyOf", "([Ljava/lang/Object;I)[Ljava/lang/Object;"⟩, prog_55_method_119_code, 2, some (.array (.object "java/lang/Object")), [])
theorem ft_7 : FOK "java/lang/Throwable" 7 0 2 0 [24, 25] := ⟨"java/lang/Throwable", "cause", "Ljava/lang/Throwable;", false, q418, Or.inr (Or.inr (Or.inl ⟨rfl, .object "java/lang/Throwable", by decide +kernel, ⟨rfl, rfl⟩, fun _ => ⟨rfl, rfl⟩⟩)), List.forall_mem_cons.mpr ⟨⟨by decide, (RX16, TX16, 7), rfl, by decide, rfl, rfl, Or.inl rfl, (fun _ => rfl), (fun h => nomatch h), rfl⟩, List.forall_mem_cons.mpr ⟨⟨by decide, (RX4, TX4, 6), rfl, by decide, rfl, rfl, Or.inl rfl, (fun _ => rfl), (fun h => nomatch h), rfl⟩, (fun _ h => nomatch h)⟩⟩⟩
theorem ft_17 : FOK "java/lang/Throwable" 17 1 2 0 [24, 25] := ⟨"java/lang/Throwable", "stackTrace", "[Ljava/lang/StackTraceElement;", false, q419, Or.inr (Or.inr (Or.inl ⟨rfl, .array (.object "java/lang/StackTraceElement"), by decide +kernel, ⟨rfl, rfl⟩, fun _ => ⟨rfl, rfl⟩⟩)), List.forall_mem_cons.mpr ⟨⟨by decide, (RX16, TX16, 7), rfl, by decide, rfl, rfl, Or.inl rfl, (fun _ => rfl), (fun h => nomatch h), rfl⟩, List.forall_mem_cons.mpr ⟨⟨by decide, (RX4, TX4, 6), rfl, by decide, rfl, rfl, Or.inl rfl, (fun _ => rfl), (fun h => nomatch h), rfl⟩, (fun _ h => nomatch h)⟩⟩⟩
theorem ft_24 : FOK "java/lang/Throwable" 24 2 2 0 [24, 25] := ⟨"java/lang/Throwable", "suppressedExceptions", "Ljava/util/List;", false, q420, Or.inr (Or.inr (Or.inl ⟨rfl, .object "java/util/List", by decide +kernel, ⟨rfl, rfl⟩, fun _ => ⟨rfl, rfl⟩⟩)), List.forall_mem_cons.mpr ⟨⟨by decide, (RX16, TX16, 7), rfl, by decide, rfl, rfl, Or.inl rfl, (fun _ => rfl), (fun h => nomatch h), rfl⟩, List.forall_mem_cons.mpr ⟨⟨by decide, (RX4, TX4, 6), rfl, by decide, rfl, rfl, Or.inl rfl, (fun _ => rfl), (fun h => nomatch h), rfl⟩, (fun _ h => nomatch h)⟩⟩⟩
theorem ft_31 : FOK "java/lang/Throwable" 31 3 2 0 [24, 25] := ⟨"java/lang/Throwable", "detailMessage", "Ljava/lang/String;", false, q417, Or.inr (Or.inr (Or.inl ⟨rfl, .object "java/lang/String", by decide +kernel, ⟨rfl, rfl⟩, fun _ => ⟨rfl, rfl⟩⟩)), List.forall_mem_cons.mpr ⟨⟨by decide, (RX16, TX16, 7), rfl, by decide, rfl, rfl, Or.inl rfl, (fun _ => rfl), (fun h => nomatch h), rfl⟩, List.forall_mem_cons.mpr ⟨⟨by decide, (RX4, TX4, 6), rfl, by decide, rfl, rfl, Or.inl rfl, (fun _ => rfl), (fun h => nomatch h), rfl⟩, (fun _ h => nomatch h)⟩⟩⟩
section SNP
variable {p : Program} {l : Launch} {e : Env} {R : Room} {s : State} {m : MethodId} {args : Array Value} {below : List Frame} {meth : Method} {c : Code} {cells slots : Nat} {Q : State → Prop} {cc : ByteArray} {D : va_G} {dA : Nat → Nat} {md : Bool} {z0 : Nat} {nL : Nat} {ad ad0 : Nat → Nat} {pc : Nat} {L : Lo} {r : List Value} {σ σ0 σ1 : Sg} {own : String} {i : Nat} {a b : Nat} {idx k0 fin : Nat} {cs : List Nat}
/-- a field takes a reference or null -/
theorem sn_putO {x : Option Nat} (hx : p.tables.exec = Jvm.exec) (hb : c.code = cc) (hK : va_K D CL (TYS dA) s) (ht : ∀ w ∈ lw_all, w.before args s = true) (hN : NWs s) (hown : s.vm.findClass own = some m.cls) (hF : FOK own idx k0 2 fin cs) (hd : decode cc pc = .ok (.putfield idx, 3)) (hc : (kdT md σ a).1 ∈ cs) (hfin : fin = 0) (hs : stT md a k0 = none) (k : GL p l e R s m args below meth c D dA md (AA z0) nL cells slots Q ad (pc + 3) L r (wr σ a k0 x)) : GL p l e R s m args below meth c D dA md (AA z0) nL cells slots Q ad pc L (va_rf x :: .ref a :: r) σ := by
  cases x with
  | none => exact sn_putn hx hb hK CL_ok ht hN hown hF hd hc (Or.inl hfin) hs k
  | some b => exact sn_putr hx hb hK CL_ok ht hN hown hF hd hc (Or.inl hfin) hs k
theorem sn_getZ {C n d : String} {j : Nat} (hx : p.tables.exec = Jvm.exec) (hb : c.code = cc) (ht : ∀ w ∈ lw_all, w.before args s = true) (hown : s.vm.findClass own = some m.cls) (hZ : Z2 C n d (ad j) (AA z0) s s.heap) (hj : 1000000 ≤ j) (hlk : Cond.fieldLink own idx C n d ∈ lw_all) (hd : decode cc pc = .ok (.getstatic idx, 3)) (k : ∀ x : Option Nat, GL p l e R s m args below meth c D dA md (AA z0) nL cells slots Q ad (pc + 3) L (va_rf x :: r) σ) : GL p l e R s m args below meth c D dA md (AA z0) nL cells slots Q ad pc L r σ := by
  rcases hZ with h | h
  · exact sn_gets hx hb ht hown h hlk (w1 := .null) rfl trivial hd (k none)
  · exact sn_gets hx hb ht hown h hlk (w1 := .ref j) rfl (Or.inr hj) hd (k (some j))
end SNP
theorem thr_end (σ : Sg) (a : Nat) (x y : Option Nat) : wr (wr (wr (wr (wr (wr (wr σ a 0 (some a)) a 1 x) a 2 y) a 1 none) a 3 none) a 0 none) a 2 none = wr (wr (wr (wr σ a 0 none) a 1 none) a 2 none) a 3 none := by
  unfold wr
  dsimp only
  have : (fun b j => if b = a ∧ j = 2 then (none : Option Nat) else if b = a ∧ j = 0 then none else if b = a ∧ j = 3 then none else if b = a ∧ j = 1 then none else if b = a ∧ j = 2 then y else if b = a ∧ j = 1 then x else if b = a ∧ j = 0 then some a else σ.2.2.1 b j) = (fun b j => if b = a ∧ j = 3 then (none : Option Nat) else if b = a ∧ j = 2 then none else if b = a ∧ j = 1 then none else if b = a ∧ j = 0 then none else σ.2.2.1 b j) := by
    funext b j
    by_cases hb : b = a
    · by_cases h0 : j = 0
      · simp [hb, h0]
      · by_cases h1 : j = 1
        · simp [hb, h1]
        · by_cases h2 : j = 2
          · simp [hb, h2]
          · by_cases h3 : j = 3
            · simp [hb, h3]
            · simp [h0, h1, h2, h3]
    · simp [hb]
  rw [this]
theorem ct_t4 {l : Launch} {D : va_G} {dA : Nat → Nat} {md : Bool} {z0 : Nat} {σ : Sg} {a : Nat} (hk2 : (kdT md σ a).1 = 24 ∨ (kdT md σ a).1 = 25) : CT l D dA md z0 (SXc z0) 1 64 mqT4 [.ref a, .null, .null, .int 0, .int 0] σ (.inl none, wr (wr (wr (wr σ a 0 none) a 1 none) a 2 none) a 3 none) := by
  have hk : (kdT md σ a).1 ∈ [24, 25] := by simpa using hk2
  have hst : ∀ k, stT md a k = none := fun k => stT_5 (Or.inr hk2)
  refine CT_ofV (by decide +kernel) (Nat.le_of_ble_eq_true rfl) rfl rfl ?_
  intro ad p e s m below meth c hE
  have hX := hE.1
  have hB := hE.2.1
  have ht := hE.2.2.2.2.1
  have hO := hE.2.2.2.2.2.1
  have hlk := hE.2.2.2.2.2.2.1
  have hSB := hE.2.2.2.2.2.2.2.2.2
  have hS := hSB.2.2.2
  refine sn_aload_n hX hB (n := 0) (dec_ok (by decide +kernel)) rfl ?_
  refine sn_obj0 (own := "java/lang/Throwable") (i := 1) hX hB hE.2.2.1 ht hO q390 (dec_ok (by decide +kernel)) (Nat.le_of_ble_eq_true rfl) (Nat.le_refl _) (Nat.le_refl _) ?_
  refine sn_aload_n hX hB (n := 0) (dec_ok (by decide +kernel)) rfl ?_
  refine sn_aload_n hX hB (n := 0) (dec_ok (by decide +kernel)) rfl ?_
  refine sn_putO (x := some a) (idx := 7) hX hB hSB.2.1 ht hSB.2.2.1 hO ft_7 (dec_ok (by decide +kernel)) hk rfl (hst _) ?_
  refine sn_aload_n hX hB (n := 0) (dec_ok (by decide +kernel)) rfl ?_
  refine sn_getZ (idx := 13) (j := 3000002) hX hB ht hO hS.2.2.1.2.2.2.2.1 (by omega) q391 (dec_ok (by decide +kernel)) (fun x => ?_)
  refine sn_putO (x := x) (idx := 17) hX hB hSB.2.1 ht hSB.2.2.1 hO ft_17 (dec_ok (by decide +kernel)) hk rfl (hst _) ?_
  refine sn_aload_n hX hB (n := 0) (dec_ok (by decide +kernel)) rfl ?_
  refine sn_getZ (idx := 20) (j := 3000003) hX hB ht hO hS.2.2.1.2.2.2.2.2 (by omega) q393 (dec_ok (by decide +kernel)) (fun y => ?_)
  refine sn_putO (x := y) (idx := 24) hX hB hSB.2.1 ht hSB.2.2.1 hO ft_24 (dec_ok (by decide +kernel)) hk rfl (hst _) ?_
  refine sn_iload hX hB (n := 4) (dec_ok (by decide +kernel)) rfl ?_
  refine sn_ifc (cn := .eq) (x := 0) (off := 11) hX hB (dec_ok (by decide +kernel)) (by decide) ?_
  rw [show am_cnd .eq 0 0 (am_tg 25 11) (25 + 3) = 36 from rfl]
  refine sn_aload_n hX hB (n := 0) (dec_ok (by decide +kernel)) rfl ?_
  refine sn_null hX hB (dec_ok (by decide +kernel)) ?_
  refine sn_putO (x := none) (idx := 17) hX hB hSB.2.1 ht hSB.2.2.1 hO ft_17 (dec_ok (by decide +kernel)) hk rfl (hst _) ?_
  refine sn_aload_n hX hB (n := 0) (dec_ok (by decide +kernel)) rfl ?_
  refine sn_aload_nN hX hB (n := 1) (dec_ok (by decide +kernel)) rfl ?_
  refine sn_putO (x := none) (idx := 31) hX hB hSB.2.1 ht hSB.2.2.1 hO ft_31 (dec_ok (by decide +kernel)) hk rfl (hst _) ?_
  refine sn_aload_n hX hB (n := 0) (dec_ok (by decide +kernel)) rfl ?_
  refine sn_aload_nN hX hB (n := 2) (dec_ok (by decide +kernel)) rfl ?_
  refine sn_putO (x := none) (idx := 7) hX hB hSB.2.1 ht hSB.2.2.1 hO ft_7 (dec_ok (by decide +kernel)) hk rfl (hst _) ?_
  refine sn_iload_n hX hB (n := 3) (dec_ok (by decide +kernel)) rfl ?_
  refine sn_ifc (cn := .ne) (x := 0) (off := 8) hX hB (dec_ok (by decide +kernel)) (by decide) ?_
  rw [show am_cnd .ne 0 0 (am_tg 52 8) (52 + 3) = 55 from rfl]
  refine sn_aload_n hX hB (n := 0) (dec_ok (by decide +kernel)) rfl ?_
  refine sn_null hX hB (dec_ok (by decide +kernel)) ?_
  refine sn_putO (x := none) (idx := 24) hX hB hSB.2.1 ht hSB.2.2.1 hO ft_24 (dec_ok (by decide +kernel)) hk rfl (hst _) ?_
  rw [thr_end σ a x y]
  exact sn_retN hX hB hE.2.2.2.1 rfl hlk (dec_ok (by decide +kernel)) ext.rf
theorem cc_t4 : CALLI "java/lang/Exception" 16 4 mqT4 := ⟨⟨by decide, q150, ⟨by decide, by decide, by decide +kernel⟩, q415⟩, rfl, q414, rfl, rfl, Or.inl q413⟩
theorem sn_callI0 {p : Program} {l : Launch} {e : Env} {R : Room} {s : State} {m : MethodId} {args : Array Value} {below : List Frame} {meth : Method} {c : Code} {cells slots : Nat} {Q : State → Prop} {cc : ByteArray} {D : va_G} {dA : Nat → Nat} {md : Bool} {z0 : Nat} {nL : Nat} {ad : Nat → Nat} {pc : Nat} {L : Lo} {r : List Value} {σ σ1 : Sg} {own : String} {i n fr lc b : Nat} {q : Mq} {As : List Value} {v : Option Value} (hx : p.tables.exec = Jvm.exec) (hb : c.code = cc) (hml : c.maxLocals = nL) (ht : ∀ w ∈ lw_all, w.before args s = true) (hown : s.vm.findClass own = some m.cls) (hSB : SB D dA z0 (SXc z0) ad s) (hc : CALLI own i n q) (hn : As.length = n) (hM : CT l D dA md z0 (SXc z0) fr lc q (.ref b :: As) σ (.inl v, σ1)) (hz : gz σ1 = gz σ) (hg : gs σ1 = gs σ) (hwd : am_wd r ≤ 8) (hd : decode cc pc = .ok (.invokespecial i, 3)) (hRf : fr + 1 ≤ R.frames) (hRl : lc + 64 ≤ R.locals) (hRc : cells ≤ R.cells) (hRs : slots ≤ R.slots)
    (kk : ∀ ad1, ext ad ad1 σ → GL p l e R s m args below meth c D dA md (AA z0) nL cells slots Q ad1 (pc + 3) L (am_pv v r) σ1) : GL p l e R s m args below meth c D dA md (AA z0) nL cells slots Q ad pc L (As.reverse ++ .ref b :: r) σ := by
  have hcl : cl σ1 = cl σ := by unfold cl; rw [hz, hg]
  have e1 : cl (xt ((.inl v, σ1) : Ou × Sg)) - cl σ = 0 := by show cl σ1 - cl σ = 0; omega
  have e2 : gs (xt ((.inl v, σ1) : Ou × Sg)) - gs σ = 0 := by show gs σ1 - gs σ = 0; omega
  refine sn_callI (o := (.inl v, σ1)) hx hb hml ht hSB.2.2.1 hown (SXc_SXP z0) hSB hc hn hM (by show gz σ ≤ gz σ1; omega) hwd hd hRf hRl (by rw [e1]; exact hRc) (by rw [e2]; exact hRs) (fun ec x ad1 h => (nomatch h)) (fun v1 ad1 h1 h2 => ?_)
  cases h1
  rw [e1, e2]
  exact kk ad1 h2
theorem ct_e4 {l : Launch} {D : va_G} {dA : Nat → Nat} {md : Bool} {z0 : Nat} {σ : Sg} {a : Nat} (hk2 : (kdT md σ a).1 = 24 ∨ (kdT md σ a).1 = 25) : CT l D dA md z0 (SXc z0) 2 128 mqE4 [.ref a, .null, .null, .int 0, .int 0] σ (.inl none, wr (wr (wr (wr σ a 0 none) a 1 none) a 2 none) a 3 none) := by
  refine CT_ofV (by decide +kernel) (Nat.le_of_ble_eq_true rfl) rfl rfl ?_
  intro ad p e s m below meth c hE
  have hX := hE.1
  have hB := hE.2.1
  have ht := hE.2.2.2.2.1
  have hO := hE.2.2.2.2.2.1
  have hlk := hE.2.2.2.2.2.2.1
  have hSB := hE.2.2.2.2.2.2.2.2.2
  have hS := hSB.2.2.2
  refine sn_aload_n hX hB (n := 0) (dec_ok (by decide +kernel)) rfl ?_
  refine sn_aload_nN hX hB (n := 1) (dec_ok (by decide +kernel)) rfl ?_
  refine sn_aload_nN hX hB (n := 2) (dec_ok (by decide +kernel)) rfl ?_
  refine sn_iload_n hX hB (n := 3) (dec_ok (by decide +kernel)) rfl ?_
  refine sn_iload hX hB (n := 4) (dec_ok (by decide +kernel)) rfl ?_
  refine sn_callI0 (As := [.null, .null, .int 0, .int 0]) (i := 16) (own := "java/lang/Exception") (v := none) (fr := 1) (lc := 64) hX hB hE.2.2.1 ht hO hSB cc_t4 rfl (ct_t4 hk2) rfl rfl (Nat.le_of_ble_eq_true rfl) (dec_ok (by decide +kernel)) (by show 1 + 1 ≤ 2; omega) (by show 64 + 64 ≤ 128; omega) (Nat.zero_le _) (Nat.zero_le _) (fun ad1 he => ?_)
  exact sn_retN hX hB hE.2.2.2.1 rfl hlk (dec_ok (by decide +kernel)) he
