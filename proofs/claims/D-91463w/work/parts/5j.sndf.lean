/-! SOUNDNESS 16: a call by an interface -/
set_option maxRecDepth 100000
theorem q770 : (Jvm.Cond.methodLink "java/util/ArrayList" (42 : Nat) ({ cls := "java/util/Collection", name := "toArray", desc := "()[Ljava/lang/Object;" } : Jvm.MethodName)) ∈ lw_all := lw_g (lw_at lw_m3 148 rfl) rfl
theorem q774 : (Jvm.Cond.selects "java/util/ArrayList" ({ cls := "java/util/Collection", name := "toArray", desc := "()[Ljava/lang/Object;" } : Jvm.MethodName) ({ cls := "java/util/ArrayList", name := "toArray", desc := "()[Ljava/lang/Object;" } : Jvm.MethodName)) ∈ lw_all := lw_g (lw_at lw_m3 152 rfl) rfl
theorem ta_W : ∀ w ∈ ([.methodLink "java/util/ArrayList" 42 (⟨"java/util/Collection", "toArray", "()[Ljava/lang/Object;"⟩ : MethodName), .selects "java/util/ArrayList" (⟨"java/util/Collection", "toArray", "()[Ljava/lang/Object;"⟩ : MethodName) (⟨"java/util/ArrayList", "toArray", "()[Ljava/lang/Object;"⟩ : MethodName), .instanceMethod (⟨"java/util/ArrayList", "toArray", "()[Ljava/lang/Object;"⟩ : MethodName), .initialized "java/util/ArrayList"] : List Cond), w ∈ lw_all := (List.forall_mem_cons.mpr ⟨q770, (List.forall_mem_cons.mpr ⟨q774, (List.forall_mem_cons.mpr ⟨q776, (List.forall_mem_cons.mpr ⟨q147, (fun _ h => nomatch h)⟩)⟩)⟩)⟩)
section SNKF
variable {p : Program} {l : Launch} {e : Env} {R : Room} {s : State} {m : MethodId} {args : Array Value} {below : List Frame} {meth : Method} {c : Code} {cells slots : Nat} {Q : State → Prop} {cc : ByteArray} {D : va_G} {dA : Nat → Nat} {md : Bool} {z0 : Nat} {nL : Nat} {ad ad0 : Nat → Nat} {pc : Nat} {L : Lo} {r : List Value} {σ σ0 : Sg} {own : String} {i n : Nat} {o : Ou × Sg} {q : Mq} {fr lc ck b cnt : Nat} {As : List Value}
theorem sn_callF (hx : p.tables.exec = Jvm.exec) (hb : c.code = cc) (hml : c.maxLocals = nL) (ht : ∀ w ∈ lw_all, w.before args s = true) (hN : NWs s) (hown : s.vm.findClass "java/util/ArrayList" = some m.cls) (hSB : SB D dA z0 (SXc z0) ad s) (hk : (kdT md σ b).1 = 16) (hM : CT l D dA md z0 (SXc z0) fr lc mq2819 [.ref b] σ o) (hz : gz σ ≤ gz o.2) (hwd : am_wd r ≤ 8) (hd : decode cc pc = .ok (.invokeinterface 42 cnt, 5)) (hRf : fr + 1 ≤ R.frames) (hRl : lc + 64 ≤ R.locals) (hRc : cells + (cl (xt o) - cl σ) ≤ R.cells) (hRs : slots + (gs (xt o) - gs σ) ≤ R.slots)
    (kx : ∀ (ec x : Nat) (ad1 : Nat → Nat), o.1 = .inr (ec, x) → ext ad ad1 σ → XL p l e R s m args below meth c D dA md (AA z0) nL (cells + (cl (xt o) - cl σ)) (slots + (gs (xt o) - gs σ)) Q ad1 pc L r ec x o.2)
    (kk : ∀ (v : Option Value) (ad1 : Nat → Nat), o.1 = .inl v → ext ad ad1 σ → GL p l e R s m args below meth c D dA md (AA z0) nL (cells + (cl (xt o) - cl σ)) (slots + (gs (xt o) - gs σ)) Q ad1 (pc + 5) L (am_pv v r) o.2) : GL p l e R s m args below meth c D dA md (AA z0) nL cells slots Q ad pc L (.ref b :: r) σ := by
  intro H locs ls hW hL hV
  have hV1 : VOK σ L r := ⟨fq1 hV.1, hV.2⟩
  obtain ⟨h45, hin, hdd, hwq⟩ := mc2819
  have hG : GoodIn lw_all (wsq mq2819) := wsq_good hwq
  have hR : (rmF fr lc σ o).frames + 1 ≤ R.frames ∧ 8 + (mq2819.2.2.1 + 11) + (rmF fr lc σ o).locals ≤ R.locals := ⟨hRf, by show 8 + (mq2819.2.2.1 + 11) + lc ≤ _; omega⟩
  have hwd2 : 2 * (F0 m pc ls ((.ref b :: r).map (mv ad))).monitorRoom + ((r.map (mv ad)).map fun v => v.category).sum ≤ 8 := by
    rw [wd_map]
    show 2 * 0 + _ ≤ _
    omega
  have hvk : ∀ v ∈ [Value.ref b], vok σ v := List.forall_mem_cons.mpr ⟨hV.1 _ List.mem_cons_self, (fun _ h => nomatch h)⟩
  have hpp := pre_of (SXc_SXP z0) hSB hW [.ref (ad b)]
  have hbl := hW.2.2.2.lt (a := b) (by omega)
  have hat := (e_at (ad := ad) (dA := dA) (md := md) hbl).trans (by rw [e_o (by omega), hk])
  have hqc : CL[16 - 10]? = some (RJ2, TJ2, 3) := rfl
  have hrec := va_recv hSB.2.1 hW.1 hqc hat
  have hcA := (hSB.2.1.1 6 _ hqc).2
  have hpv : PreV s H "java/util/ArrayList" (ad b) (va_Pc ([Value.ref b].map (mv ad)) (fun U => SB D dA z0 (SXc z0) ad U ∧ HB D dA md z0 ad σ U.heap)) [] := ⟨hpp.1, hrec, hpp.2⟩
  refine sn_after (a := ([Value.ref (ad b)] : List Value).toArray) hW hL hV1 hz (o := o) ?_ kx kk
  exact vx_runF (Ts := lw_all) (C := "java/util/ArrayList") hcA ⟨hx, hb, hml, hown, ht⟩ (hM hvk ad) (va_cwF (x := taX) (y := taY) 0 ht (lw_app ta_W hG) rfl rfl rfl hSB.2.2.2.2.2.2.2.2.2.2 ⟨by decide, by decide, by decide +kernel⟩ hR) hpv rfl rfl hL.2.1 rfl hwd2 hd ⟨hRc, hRs⟩
end SNKF
