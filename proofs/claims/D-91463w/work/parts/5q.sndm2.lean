set_option maxRecDepth 100000
theorem q160 : (Jvm.Cond.initialized "java/util/Arrays") ∈ lw_all := lw_g (lw_at lw_m1 18 rfl) rfl
theorem q779 : (Jvm.Cond.methodLink "java/util/ArrayList" (66 : Nat) ({ cls := "java/util/Arrays", name := "copyOf", desc := "([Ljava/lang/Object;I)[Ljava/lang/Object;" } : Jvm.MethodName)) ∈ lw_all := lw_g (lw_at lw_m3 157 rfl) rfl
theorem q780 : (Jvm.Cond.static ({ cls := "java/util/Arrays", name := "copyOf", desc := "([Ljava/lang/Object;I)[Ljava/lang/Object;" } : Jvm.MethodName)) ∈ lw_all := lw_g (lw_at lw_m3 158 rfl) rfl
theorem q781 : (Jvm.Cond.code ({ cls := "java/util/Arrays", name := "copyOf", desc := "([Ljava/lang/Object;I)[Ljava/lang/Object;" } : Jvm.MethodName) prog_55_method_119_code (2 : Nat) (Option.some (Jvm.ClassFile.FieldType.array (Jvm.ClassFile.FieldType.object "java/lang/Object")))) ∈ lw_all := lw_g (lw_at lw_m3 159 rfl) rfl
theorem q782 : (Jvm.Cond.methodLink "java/util/Arrays" (86 : Nat) ({ cls := "java/lang/Object", name := "getClass", desc := "()Ljava/lang/Class;" } : Jvm.MethodName)) ∈ lw_all := lw_g (lw_at lw_m3 160 rfl) rfl
theorem q783 : (Jvm.Cond.instanceMethod ({ cls := "java/lang/Object", name := "getClass", desc := "()Ljava/lang/Class;" } : Jvm.MethodName)) ∈ lw_all := lw_g (lw_at lw_m3 161 rfl) rfl
theorem q814 : (Jvm.Cond.native ({ cls := "java/lang/Object", name := "getClass", desc := "()Ljava/lang/Class;" } : Jvm.MethodName)) ∈ lw_all := lw_g (lw_at lw_m3 192 rfl) rfl
theorem q815 : (Jvm.Cond.methodLink "java/util/Arrays" (300 : Nat) ({ cls := "java/util/Arrays", name := "copyOf", desc := "([Ljava/lang/Object;ILjava/lang/Class;)[Ljava/lang/Object;" } : Jvm.MethodName)) ∈ lw_all := lw_g (lw_at lw_m3 193 rfl) rfl
theorem q816 : (Jvm.Cond.static ({ cls := "java/util/Arrays", name := "copyOf", desc := "([Ljava/lang/Object;ILjava/lang/Class;)[Ljava/lang/Object;" } : Jvm.MethodName)) ∈ lw_all := lw_g (lw_at lw_m3 194 rfl) rfl
theorem q817 : (Jvm.Cond.code ({ cls := "java/util/Arrays", name := "copyOf", desc := "([Ljava/lang/Object;ILjava/lang/Class;)[Ljava/lang/Object;" } : Jvm.MethodName) prog_55_method_120_code (4 : Nat) (Option.some (Jvm.ClassFile.FieldType.array (Jvm.ClassFile.FieldType.object "java/lang/Object")))) ∈ lw_all := lw_g (lw_at lw_m3 195 rfl) rfl
theorem q818 : (Jvm.Cond.classLink "java/util/Arrays" (110 : Nat) "[Ljava/lang/Object;") ∈ lw_all := lw_g (lw_at lw_m3 196 rfl) rfl
theorem q820 : (Jvm.Cond.methodLink "java/util/Arrays" (304 : Nat) ({ cls := "java/lang/Math", name := "min", desc := "(II)I" } : Jvm.MethodName)) ∈ lw_all := lw_g (lw_at lw_m3 198 rfl) rfl
theorem q823 : (Jvm.Cond.methodLink "java/util/Arrays" (150 : Nat) ({ cls := "java/lang/System", name := "arraycopy", desc := "(Ljava/lang/Object;ILjava/lang/Object;II)V" } : Jvm.MethodName)) ∈ lw_all := lw_g (lw_at lw_m3 201 rfl) rfl
theorem q2906 : (Jvm.Cond.selects "[Ljava/lang/Object;" ({ cls := "java/lang/Object", name := "getClass", desc := "()Ljava/lang/Class;" } : Jvm.MethodName) ({ cls := "java/lang/Object", name := "getClass", desc := "()Ljava/lang/Class;" } : Jvm.MethodName)) ∈ lw_all := lw_g (lw_at lw_m12 124 rfl) rfl
theorem q2907 : (Jvm.Cond.declares ({ cls := "java/lang/Object", name := "getClass", desc := "()Ljava/lang/Class;" } : Jvm.MethodName)) ∈ lw_tbl := lw_at lw_m12 125 rfl
/-! SOUNDNESS 22: Arrays.copyOf -/
theorem ct_min {l : Launch} {D : va_G} {dA : Nat → Nat} {md : Bool} {z0 : Nat} {σ : Sg} {x y : Int32} : CT l D dA md z0 (SXc z0) 0 0 mqMin [.int x, .int y] σ (.inl (some (.int (if x ≤ y then x else y))), σ) := by
  refine CT_ofV (by decide +kernel) (Nat.le_of_ble_eq_true rfl) rfl rfl ?_
  intro ad p e s m below meth c hE
  have hX := hE.1
  have hB := hE.2.1
  have ht := hE.2.2.2.2.1
  have hO := hE.2.2.2.2.2.1
  have hlk := hE.2.2.2.2.2.2.1
  have hSB := hE.2.2.2.2.2.2.2.2.2
  have hS := hSB.2.2.2
  refine sn_iload_n hX hB (n := 0) (dec_ok (by decide +kernel)) rfl ?_
  refine sn_iload_n hX hB (n := 1) (dec_ok (by decide +kernel)) rfl ?_
  by_cases hc : x ≤ y
  · refine sn_icmpc (cn := .gt) (x := x) (y := y) (off := 7) hX hB (dec_ok (by decide +kernel)) (by decide) ?_
    rw [show am_cnd .gt x y (am_tg 2 7) (2 + 3) = 5 from if_neg (fun h => by rw [Int32.lt_iff_toInt_lt] at h; rw [Int32.le_iff_toInt_le] at hc; omega)]
    refine sn_iload_n hX hB (n := 0) (dec_ok (by decide +kernel)) rfl ?_
    refine sn_goto (off := 4) hX hB (dec_ok (by decide +kernel)) (by decide) ?_
    rw [show am_tg 6 4 = 10 from rfl, if_pos hc]
    exact sn_retV (rk := 1) hX hB hE.2.2.2.1 rfl hlk (dec_ok (by decide +kernel)) (Or.inl rfl) ext.rf
  · refine sn_icmpc (cn := .gt) (x := x) (y := y) (off := 7) hX hB (dec_ok (by decide +kernel)) (by decide) ?_
    rw [show am_cnd .gt x y (am_tg 2 7) (2 + 3) = 9 from if_pos (by rw [Int32.lt_iff_toInt_lt]; rw [Int32.le_iff_toInt_le] at hc; omega)]
    refine sn_iload_n hX hB (n := 1) (dec_ok (by decide +kernel)) rfl ?_
    rw [if_neg hc]
    exact sn_retV (rk := 1) hX hB hE.2.2.2.1 rfl hlk (dec_ok (by decide +kernel)) (Or.inl rfl) ext.rf
theorem cc_min : CALLS "java/util/Arrays" 304 2 mqMin := ⟨⟨by decide, q156, ⟨by decide, by decide, by decide +kernel⟩, q822⟩, q821, rfl, Or.inl q820⟩
theorem cc_c3 : CALLS "java/util/Arrays" 300 3 mqC3 := ⟨⟨by decide, q160, ⟨by decide, by decide, by decide +kernel⟩, q817⟩, q816, rfl, Or.inl q815⟩
theorem cc_c2 : CALLS "java/util/ArrayList" 66 2 mqC2 := ⟨⟨by decide, q160, ⟨by decide, by decide, by decide +kernel⟩, q781⟩, q780, rfl, Or.inl q779⟩
theorem ofNat_clamp {N : Nat} (h : N < 1000000) : (Int32.ofNat N).toNatClampNeg = N := by
  have h1 : (Int32.ofNat N).toInt = N := Int32.toInt_ofNat_of_lt (by omega)
  show (Int32.ofNat N).toInt.toNat = N
  rw [h1]
  rfl
theorem min_clamp {N : Nat} {n : Int32} (h : N < 1000000) (hn : ¬ n < 0) : ((if Int32.ofNat N ≤ n then Int32.ofNat N else n) : Int32).toNatClampNeg = min n.toNatClampNeg N ∧ ¬ ((if Int32.ofNat N ≤ n then Int32.ofNat N else n) : Int32) < 0 := by
  have h1 : (Int32.ofNat N).toInt = N := Int32.toInt_ofNat_of_lt (by omega)
  have h2 : (0 : Int32).toInt = 0 := rfl
  have h3 : n.toNatClampNeg = n.toInt.toNat := rfl
  rw [Int32.lt_iff_toInt_lt] at hn
  by_cases hc : Int32.ofNat N ≤ n
  · rw [if_pos hc, ofNat_clamp h]
    rw [Int32.le_iff_toInt_le] at hc
    refine ⟨by omega, ?_⟩
    rw [Int32.lt_iff_toInt_lt]
    omega
  · rw [if_neg hc]
    rw [Int32.le_iff_toInt_le] at hc
    refine ⟨by omega, ?_⟩
    rw [Int32.lt_iff_toInt_lt]
    omega
section SNQ
variable {p : Program} {l : Launch} {e : Env} {R : Room} {s : State} {m : MethodId} {args : Array Value} {below : List Frame} {meth : Method} {c : Code} {cells slots : Nat} {Q : State → Prop} {cc : ByteArray} {D : va_G} {dA : Nat → Nat} {md : Bool} {z0 : Nat} {nL : Nat} {ad ad0 : Nat → Nat} {pc : Nat} {L : Lo} {r : List Value} {σ σ0 σ1 : Sg} {own : String} {i : Nat} {a b : Nat}
theorem sn_ldcM {C : String} {j : Nat} (hx : p.tables.exec = Jvm.exec) (hb : c.code = cc) (ht : ∀ w ∈ lw_all, w.before args s = true) (hown : s.vm.findClass own = some m.cls) (hlk : Cond.classLink own i C ∈ lw_all) (hM : va_Mi C (ad j) s) (hj : 1000000 ≤ j) (hd : decode cc pc = .ok (.ldc i, 2)) (k : GL p l e R s m args below meth c D dA md (AA z0) nL cells slots Q ad (pc + 2) L (.ref j :: r) σ) : GL p l e R s m args below meth c D dA md (AA z0) nL cells slots Q ad pc L r σ := by
  intro H locs ls hW hL hV
  exact va_ldcM hx hb hown (ht _ hlk) hM hd (k H locs ls hW hL ⟨fqc (Or.inr hj) hV.1, hV.2⟩)
theorem sn_acmp0 {off : Int} {tgt : Nat} (hx : p.tables.exec = Jvm.exec) (hb : c.code = cc) (hd : decode cc pc = .ok (.if_acmp .ne off, 3)) (ho : (pc : Int) + off = (tgt : Int)) (k : GL p l e R s m args below meth c D dA md (AA z0) nL cells slots Q ad (pc + 3) L r σ) : GL p l e R s m args below meth c D dA md (AA z0) nL cells slots Q ad pc L (.ref a :: .ref a :: r) σ := by
  intro H locs ls hW hL hV
  exact lv_acmp_ne (rx := some (ad a)) (ry := some (ad a)) hx hb hd ho (fun h => absurd rfl h) (fun _ => k H locs ls hW hL ⟨fq2 hV.1, hV.2⟩)
theorem sn_getC {j : Nat} (hx : p.tables.exec = Jvm.exec) (hb : c.code = cc) (hml : c.maxLocals = nL) (hK : va_K D CL (TYS dA) s) (ht : ∀ w ∈ lw_all, w.before args s = true) (hN : NWs s) (hown : s.vm.findClass own = some m.cls) (hlk : Cond.methodLink own i ⟨"java/lang/Object", "getClass", "()Ljava/lang/Class;"⟩ ∈ lw_all) (hM : va_Mi "[Ljava/lang/Object;" (ad j) s) (hj : 1000000 ≤ j) (hk : (kdT md σ a).1 = 5) (hwd : am_wd r ≤ 8) (hRf : 1 ≤ R.frames) (hRl : 64 ≤ R.locals) (hd : decode cc pc = .ok (.invokevirtual i, 3)) (k : GL p l e R s m args below meth c D dA md (AA z0) nL cells slots Q ad (pc + 3) L (.ref j :: r) σ) : GL p l e R s m args below meth c D dA md (AA z0) nL cells slots Q ad pc L (.ref a :: r) σ := by
  intro H locs ls hW hL hV
  have ha := hW.2.2.2.lt (a := a) (by omega)
  have hat := (e_at (ad := ad) (dA := dA) (md := md) ha).trans (by rw [e_56 (Or.inl hk), hk])
  have hcell := hW.1 a _ hat
  have hRA := (hK.2 4 (dA 5, .object "java/lang/Object") rfl).2
  exact va_getC hx hb (hml.trans hL.2.1.symm) hown (ht _ hlk) (atN hN q2907 rfl) (ht _ q2906) (ht _ q783) (ht _ q814) hM ⟨_, hcell, rfl, va_nmO hRA (by decide +kernel)⟩ hRf (by rw [wd_map]; omega) hd (k H locs ls hW hL ⟨fqc (Or.inr hj) (fq1 hV.1), hV.2⟩)
end SNQ
theorem ct_c3 {l : Launch} {D : va_G} {dA : Nat → Nat} {md : Bool} {z0 : Nat} {σ σ1 : Sg} {a : Nat} {n : Int32} (hk : (kdT md σ a).1 = 5) (hn : ¬ n < 0) (hN1 : (kdT md σ a).2 < 1000000) (hg : am_new σ (5, n.toNatClampNeg) n.toNatClampNeg = some σ1) (hbig : md = true → K1.length ≤ gz σ) (hal : a < gz σ ∨ gz σ < a) : CT l D dA md z0 (SXc z0) 1 64 mqC3 [.ref a, .int n, .ref 3000001] σ (.inl (some (.ref (gz σ))), cpr σ1 a 0 (gz σ) 0 (min n.toNatClampNeg (kdT md σ a).2)) := by
  refine CT_ofP (by decide +kernel) (Nat.le_of_ble_eq_true rfl) ?_
  intro ad p e s m below meth c hE
  have hX := hE.1
  have hB := hE.2.1
  have ht := hE.2.2.2.2.1
  have hO := hE.2.2.2.2.2.1
  have hlk := hE.2.2.2.2.2.2.1
  have hSB := hE.2.2.2.2.2.2.2.2.2
  have hS := hSB.2.2.2
  refine sn_aload_n hX hB (n := 2) (dec_ok (by decide +kernel)) rfl ?_
  refine sn_ldcM (own := "java/util/Arrays") (i := 110) (j := 3000001) hX hB ht hO q818 hS.2.2.2.1 (by omega) (dec_ok (by decide +kernel)) ?_
  refine sn_acmp0 (off := 10) (tgt := 13) hX hB (dec_ok (by decide +kernel)) rfl ?_
  refine sn_iload_n hX hB (n := 1) (dec_ok (by decide +kernel)) rfl ?_
  have hnew := am_new_i hg
  have hcw := cl_wn σ (5, n.toNatClampNeg) n.toNatClampNeg
  have hs1 : σ1 = wn σ (5, n.toNatClampNeg) n.toNatClampNeg := hnew.2.2
  have hcl1 : cl σ + 1 ≤ cl σ1 := by rw [hs1]; exact hcw
  have hgs1 : gs σ1 = gs σ + n.toNatClampNeg := by rw [hs1]; rfl
  refine sn_newref (own := "java/util/Arrays") (idx := 2) (q := 5) (σ1 := σ1) hX hB hSB.2.1 ht hSB.2.2.1 hO hSB.1 hn (Or.inl ⟨rfl, q819, q219⟩) (dec_ok (by decide +kernel)) hg (by show 0 + 1 ≤ cl σ1 - cl σ; omega) (by show 0 + n.toNatClampNeg ≤ gs σ1 - gs σ; omega) (fun ad1 he => ?_)
  refine GLw (c1 := cl σ1 - cl σ) (s1 := gs σ1 - gs σ) (by omega) (by omega) ?_
  have hSB1 := SB_ext hSB he
  have hS1 := hSB1.2.2.2
  refine sn_goto (off := 14) hX hB (dec_ok (by decide +kernel)) (by decide) ?_
  rw [show am_tg 10 14 = 24 from rfl]
  refine sn_astore_n (n := 3) hX hB (dec_ok (by decide +kernel)) (by decide) ?_
  show GL p l e _ s m _ below meth c D dA md (AA z0) 4 _ _ _ ad1 25 [some (.ref a), some (.int n), some (.ref 3000001), some (.ref (gz σ))] [] σ1
  refine sn_aload_n hX hB (n := 0) (dec_ok (by decide +kernel)) rfl ?_
  refine sn_iconst (n := 0) hX hB (dec_ok (by decide +kernel)) ?_
  refine sn_aload_n hX hB (n := 3) (dec_ok (by decide +kernel)) rfl ?_
  refine sn_iconst (n := 0) hX hB (dec_ok (by decide +kernel)) ?_
  refine sn_aload_n hX hB (n := 0) (dec_ok (by decide +kernel)) rfl ?_
  have hne : a ≠ gz σ := by
    intro q
    rcases hal with h | h <;> omega
  have hka : kdT md σ1 a = kdT md σ a := by rw [hs1]; exact kd_wn_ne hne
  refine sn_alen hX hB hSB1.2.1 (dec_ok (by decide +kernel)) (by rw [hka]; omega) (by rw [hka]; omega) ?_
  rw [hka]
  refine sn_iload_n hX hB (n := 1) (dec_ok (by decide +kernel)) rfl ?_
  refine sn_callS0 (As := [.int (Int32.ofNat (kdT md σ a).2), .int n]) (i := 304) (own := "java/util/Arrays") (v := some (.int (if Int32.ofNat (kdT md σ a).2 ≤ n then Int32.ofNat (kdT md σ a).2 else n))) (fr := 0) (lc := 0) hX hB hE.2.2.1 ht hO hSB1 cc_min rfl ct_min (Nat.le_of_ble_eq_true rfl) (dec_ok (by decide +kernel)) (by show 0 + 1 ≤ 1; omega) (by show 0 + 64 ≤ 64; omega) (Nat.le_refl _) (Nat.le_refl _) (fun ad2 he2 => ?_)
  have hSB2 := SB_ext hSB1 he2
  have hmc := min_clamp (n := n) hN1 hn
  have hkg : kdT md σ1 (gz σ) = (5, n.toNatClampNeg) := by rw [hs1]; exact (kd_at hbig).trans gk_wn
  have hz0 : (0 : Int32).toNatClampNeg = 0 := rfl
  have hcp : am_cpy md σ1 a 0 (gz σ) 0 (if Int32.ofNat (kdT md σ a).2 ≤ n then Int32.ofNat (kdT md σ a).2 else n) = some (cpr σ1 a 0 (gz σ) 0 (min n.toNatClampNeg (kdT md σ a).2)) := by
    unfold am_cpy
    rw [hka, hkg, hk, hmc.1, hz0]
    rw [if_pos ⟨rfl, by decide, by decide, hmc.2, by omega, by dsimp only; omega⟩]
    rfl
  show GL p l e _ s m _ below meth c D dA md (AA z0) 4 _ _ _ ad2 35 [some (.ref a), some (.int n), some (.ref 3000001), some (.ref (gz σ))] [.int (if Int32.ofNat (kdT md σ a).2 ≤ n then Int32.ofNat (kdT md σ a).2 else n), .int 0, .ref (gz σ), .int 0, .ref a] σ1
  refine sn_copy (own := "java/util/Arrays") (i := 150) hX hB hE.2.2.1 hSB2.2.1 ht hSB2.2.2.1 hO q823 hcp (dec_ok (by decide +kernel)) (Nat.le_of_ble_eq_true rfl) (by show 1 ≤ 1; omega) (by show 64 ≤ 64; omega) ?_
  refine sn_aload_n hX hB (n := 3) (dec_ok (by decide +kernel)) rfl ?_
  exact sn_ret (M := dM 5) (ins := .areturn) hX hB hE.2.2.2.1 ⟨_, rfl, Or.inr ⟨_, rfl⟩⟩ hlk (dec_ok (by decide +kernel)) (Or.inr (Or.inr (Or.inr (Or.inr ⟨rfl, _, rfl, rfl, Or.inr ⟨_, rfl⟩, rfl⟩)))) (he.tr (Nat.le_refl _) (fun b hb => he2 b (hb.up (by rw [hs1]; exact Nat.le_succ _))))
theorem ct_c2 {l : Launch} {D : va_G} {dA : Nat → Nat} {md : Bool} {z0 : Nat} {σ σ1 : Sg} {a : Nat} {n : Int32} (hk : (kdT md σ a).1 = 5) (hn : ¬ n < 0) (hN1 : (kdT md σ a).2 < 1000000) (hg : am_new σ (5, n.toNatClampNeg) n.toNatClampNeg = some σ1) (hbig : md = true → K1.length ≤ gz σ) (hal : a < gz σ ∨ gz σ < a) : CT l D dA md z0 (SXc z0) 2 128 mqC2 [.ref a, .int n] σ (.inl (some (.ref (gz σ))), cpr σ1 a 0 (gz σ) 0 (min n.toNatClampNeg (kdT md σ a).2)) := by
  refine CT_ofP (by decide +kernel) (Nat.le_of_ble_eq_true rfl) ?_
  intro ad p e s m below meth c hE
  have hX := hE.1
  have hB := hE.2.1
  have ht := hE.2.2.2.2.1
  have hO := hE.2.2.2.2.2.1
  have hlk := hE.2.2.2.2.2.2.1
  have hSB := hE.2.2.2.2.2.2.2.2.2
  have hS := hSB.2.2.2
  refine sn_aload_n hX hB (n := 0) (dec_ok (by decide +kernel)) rfl ?_
  refine sn_iload_n hX hB (n := 1) (dec_ok (by decide +kernel)) rfl ?_
  refine sn_aload_n hX hB (n := 0) (dec_ok (by decide +kernel)) rfl ?_
  refine sn_getC (own := "java/util/Arrays") (i := 86) (j := 3000001) hX hB hE.2.2.1 hSB.2.1 ht hSB.2.2.1 hO q782 hS.2.2.2.1 (by omega) hk (Nat.le_of_ble_eq_true rfl) (by show 1 ≤ 2; omega) (by show 64 ≤ 128; omega) (dec_ok (by decide +kernel)) ?_
  have hnew := am_new_i hg
  have hs1 : σ1 = wn σ (5, n.toNatClampNeg) n.toNatClampNeg := hnew.2.2
  refine sn_callS (As := [.ref a, .int n, .ref 3000001]) (i := 300) (own := "java/util/Arrays") (fr := 1) (lc := 64) hX hB hE.2.2.1 ht hSB.2.2.1 hO (SXc_SXP z0) hSB cc_c3 rfl (ct_c3 hk hn hN1 hg hbig hal) (by rw [hs1]; exact Nat.le_succ _) (Nat.le_of_ble_eq_true rfl) (dec_ok (by decide +kernel)) (by show 1 + 1 ≤ 2; omega) (by show 64 + 64 ≤ 128; omega) (by rw [Nat.zero_add]; exact Nat.le_refl _) (by rw [Nat.zero_add]; exact Nat.le_refl _) (fun ec x ad1 h => (nomatch h)) (fun v1 ad1 h1 he => ?_)
  cases h1
  rw [Nat.zero_add, Nat.zero_add]
  exact sn_ret (M := dM 5) (ins := .areturn) hX hB hE.2.2.2.1 ⟨_, rfl, Or.inr ⟨_, rfl⟩⟩ hlk (dec_ok (by decide +kernel)) (Or.inr (Or.inr (Or.inr (Or.inr ⟨rfl, _, rfl, rfl, Or.inr ⟨_, rfl⟩, rfl⟩)))) he
