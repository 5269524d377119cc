set_option maxRecDepth 100000
theorem q161 : (Jvm.Cond.initialized "java/lang/System") ∈ lw_all := lw_g (lw_at lw_m1 19 rfl) rfl
theorem q171 : (Jvm.Cond.initialized "java/lang/Float") ∈ lw_all := lw_g (lw_at lw_m1 29 rfl) rfl
theorem q824 : (Jvm.Cond.static ({ cls := "java/lang/System", name := "arraycopy", desc := "(Ljava/lang/Object;ILjava/lang/Object;II)V" } : Jvm.MethodName)) ∈ lw_all := lw_g (lw_at lw_m3 202 rfl) rfl
theorem q825 : (Jvm.Cond.native ({ cls := "java/lang/System", name := "arraycopy", desc := "(Ljava/lang/Object;ILjava/lang/Object;II)V" } : Jvm.MethodName)) ∈ lw_all := lw_g (lw_at lw_m3 203 rfl) rfl
theorem q1116 : (Jvm.Cond.static ({ cls := "java/lang/Float", name := "intBitsToFloat", desc := "(I)F" } : Jvm.MethodName)) ∈ lw_all := lw_g (lw_at lw_m5 14 rfl) rfl
theorem q1117 : (Jvm.Cond.native ({ cls := "java/lang/Float", name := "intBitsToFloat", desc := "(I)F" } : Jvm.MethodName)) ∈ lw_all := lw_g (lw_at lw_m5 15 rfl) rfl
/-! SOUNDNESS 19: builtins: constructors, copies -/
set_option maxRecDepth 100000
theorem WFs_cpi {md : Bool} {σ : Sg} {a b sp dp n : Nat} (h : WFs md σ) (hk : (kdT md σ b).1 = 3 → (kdT md σ a).1 = 3) : WFs md (cpi σ a sp b dp n) := by
  obtain ⟨h1, h2, h3, h4, h5, h6, h7, h8⟩ := h
  refine ⟨h1, h2, h3, h4, h5, h6, fun c k hc => ?_, h8⟩
  show ((if c = b ∧ dp ≤ k ∧ k < dp + n then gi σ a (sp + (k - dp)) else gi σ c k) : Int32).toInt8.toInt32 = (if c = b ∧ dp ≤ k ∧ k < dp + n then gi σ a (sp + (k - dp)) else gi σ c k)
  by_cases h : c = b ∧ dp ≤ k ∧ k < dp + n
  · rw [if_pos h]
    obtain ⟨rfl, -⟩ := h
    exact h7 a _ (hk hc)
  · rw [if_neg h]
    exact h7 c k hc
theorem gr_cpr {σ : Sg} {a b sp dp n : Nat} : gr (cpr σ a sp b dp n) b = va_cpy (gr σ a) (gr σ b) sp dp n := by
  funext k
  show (if b = b ∧ dp ≤ k ∧ k < dp + n then gr σ a (sp + (k - dp)) else gr σ b k) = (if dp ≤ k ∧ k < dp + n then gr σ a (sp + (k - dp)) else gr σ b k)
  by_cases h : dp ≤ k ∧ k < dp + n
  · rw [if_pos ⟨rfl, h⟩, if_pos h]
  · rw [if_neg (fun q => h q.2), if_neg h]
theorem gi_cpi {σ : Sg} {a b sp dp n : Nat} : gi (cpi σ a sp b dp n) b = va_cpy (gi σ a) (gi σ b) sp dp n := by
  funext k
  show (if b = b ∧ dp ≤ k ∧ k < dp + n then gi σ a (sp + (k - dp)) else gi σ b k) = (if dp ≤ k ∧ k < dp + n then gi σ a (sp + (k - dp)) else gi σ b k)
  by_cases h : dp ≤ k ∧ k < dp + n
  · rw [if_pos ⟨rfl, h⟩, if_pos h]
  · rw [if_neg (fun q => h q.2), if_neg h]
theorem gl_cpl {σ : Sg} {a b sp dp n : Nat} : gl (cpl σ a sp b dp n) b = va_cpy (gl σ a) (gl σ b) sp dp n := by
  funext k
  show (if b = b ∧ dp ≤ k ∧ k < dp + n then gl σ a (sp + (k - dp)) else gl σ b k) = (if dp ≤ k ∧ k < dp + n then gl σ a (sp + (k - dp)) else gl σ b k)
  by_cases h : dp ≤ k ∧ k < dp + n
  · rw [if_pos ⟨rfl, h⟩, if_pos h]
  · rw [if_neg (fun q => h q.2), if_neg h]
theorem gi_cpi_ne {σ : Sg} {a b c sp dp n : Nat} (h : c ≠ b) : gi (cpi σ a sp b dp n) c = gi σ c := funext fun _ => if_neg (fun q => h q.1)
theorem gl_cpl_ne {σ : Sg} {a b c sp dp n : Nat} (h : c ≠ b) : gl (cpl σ a sp b dp n) c = gl σ c := funext fun _ => if_neg (fun q => h q.1)
theorem gr_cpr_ne {σ : Sg} {a b c sp dp n : Nat} (h : c ≠ b) : gr (cpr σ a sp b dp n) c = gr σ c := funext fun _ => if_neg (fun q => h q.1)
theorem grT_cpr_ne {md : Bool} {σ : Sg} {a b c k sp dp n : Nat} (h : c ≠ b) : grT md (cpr σ a sp b dp n) c k = grT md σ c k := by
  unfold grT
  rw [gr_cpr_ne h]
theorem stT_5 {md : Bool} {σ : Sg} {a k : Nat} (h : (kdT md σ a).1 = 5 ∨ (kdT md σ a).1 = 24 ∨ (kdT md σ a).1 = 25) : stT md a k = none := by
  cases md with
  | false => rfl
  | true =>
    have hg : ∀ i, i < K1.length → ((K1.getD i (0, 0)).1 = 5 ∨ (K1.getD i (0, 0)).1 = 24 ∨ (K1.getD i (0, 0)).1 = 25) → T1.getD i [] = [] := by decide +kernel
    rcases Nat.lt_or_ge a K1.length with q | q
    · have h2 : K1[a]? = some K1[a] := List.getElem?_eq_getElem q
      unfold kdT at h
      rw [h2] at h
      dsimp only at h
      have h3 := hg a q (by rw [List.getD_eq_getElem?_getD, h2]; exact h)
      show am_tb T1 a k = none
      unfold am_tb
      cases h4 : T1[a]? with
      | none => rfl
      | some l =>
        rw [List.getD_eq_getElem?_getD, h4] at h3
        have : l = [] := h3
        rw [this]
        rfl
    · exact st_at (fun _ => q)
theorem WFs_cpr {md : Bool} {σ : Sg} {a b sp dp n : Nat} (h : WFs md σ) (ha : (kdT md σ a).1 = 5) (hb : (kdT md σ b).1 = 5) : WFs md (cpr σ a sp b dp n) := by
  obtain ⟨h1, h2, h3, h4, h5, h6, h7, h8⟩ := h
  have hal : a < gz σ := by
    rcases Nat.lt_or_ge a (gz σ) with q | q
    · exact q
    · have := h6 a q; omega
  have key : ∀ c k y, c < gz σ → gr (cpr σ a sp b dp n) c k = some y → vokN σ y ∧ ((kdT md σ c).1 = 5 → 10 ≤ (kdT md σ y).1) := by
    intro c k y hc hy
    by_cases hcb : c = b ∧ dp ≤ k ∧ k < dp + n
    · have e : gr (cpr σ a sp b dp n) c k = gr σ a (sp + (k - dp)) := if_pos hcb
      rw [e] at hy
      exact ⟨h3 a _ y hal hy, fun _ => h8 a _ y ha hy⟩
    · have e : gr (cpr σ a sp b dp n) c k = gr σ c k := if_neg hcb
      rw [e] at hy
      exact ⟨h3 c k y hc hy, fun q => h8 c k y q hy⟩
  refine ⟨h1, fun c k y hc hy => ?_, fun c k y hc hy => (key c k y hc hy).1, h4, h5, h6, h7, fun c k y hk hy => ?_⟩
  · by_cases hcb : c = b
    · subst hcb
      unfold grT at hy
      rw [stT_5 (Or.inl hb)] at hy
      exact (key c k y hc hy).1
    · rw [grT_cpr_ne hcb] at hy
      exact h2 c k y hc hy
  · have hk1 : (kdT md σ c).1 = 5 := hk
    have hc : c < gz σ := by
      rcases Nat.lt_or_ge c (gz σ) with q | q
      · exact q
      · have := h6 c q; omega
    exact (key c k y hc hy).2 hk1
theorem cpy_map {f g : Nat → Option Nat} {ad : Nat → Nat} {sp dp n : Nat} : (fun i => (va_cpy f g sp dp n i).map ad) = va_cpy (fun i => (f i).map ad) (fun i => (g i).map ad) sp dp n := by
  funext i
  unfold va_cpy
  by_cases h : dp ≤ i ∧ i < dp + n
  · rw [if_pos h, if_pos h]
  · rw [if_neg h, if_neg h]
section SNC2
variable {p : Program} {l : Launch} {e : Env} {R : Room} {s : State} {m : MethodId} {args : Array Value} {below : List Frame} {meth : Method} {c : Code} {cells slots : Nat} {Q : State → Prop} {cc : ByteArray} {D : va_G} {dA : Nat → Nat} {md : Bool} {z0 : Nat} {nL : Nat} {ad ad0 : Nat → Nat} {pc : Nat} {L : Lo} {r : List Value} {σ σ0 σ1 : Sg} {own : String} {i : Nat} {a b : Nat}
theorem sn_obj0 (hx : p.tables.exec = Jvm.exec) (hb : c.code = cc) (hml : c.maxLocals = nL) (ht : ∀ w ∈ lw_all, w.before args s = true) (hown : s.vm.findClass own = some m.cls) (hlk : Cond.methodLink own i Lib.objectInit ∈ lw_all) (hd : decode cc pc = .ok (.invokespecial i, 3)) (hwd : am_wd r ≤ 8) (hRf : 1 ≤ R.frames) (hRl : 64 ≤ R.locals) (k : GL p l e R s m args below meth c D dA md (AA z0) nL cells slots Q ad (pc + 3) L r σ) : GL p l e R s m args below meth c D dA md (AA z0) nL cells slots Q ad pc L (.ref a :: r) σ := by
  intro H locs ls hW hL hV
  exact W.objInit hx hb hown (ht _ hlk) (ht _ q198) (ht _ q199) (g := F0 m pc ls (.ref (ad a) :: r.map (mv ad))) rfl (hL.2.1.trans hml.symm) rfl hd hRf (by rw [wd_map]; show 2 * 0 + am_wd r + 12 ≤ _; omega) (k H locs ls hW hL ⟨fq1 hV.1, hV.2⟩)
theorem sn_i2f {x : Int32} (hx : p.tables.exec = Jvm.exec) (hb : c.code = cc) (hml : c.maxLocals = nL) (ht : ∀ w ∈ lw_all, w.before args s = true) (hown : s.vm.findClass own = some m.cls) (hlk : Cond.methodLink own i ⟨"java/lang/Float", "intBitsToFloat", "(I)F"⟩ ∈ lw_all) (hv : x.toUInt32 &&& 0x7fffffff ≤ 0x7f800000) (hd : decode cc pc = .ok (.invokestatic i, 3)) (hwd : am_wd r ≤ 8) (hRf : 1 ≤ R.frames) (hRl : 64 ≤ R.locals) (k : GL p l e R s m args below meth c D dA md (AA z0) nL cells slots Q ad (pc + 3) L (.float x.toUInt32 :: r) σ) : GL p l e R s m args below meth c D dA md (AA z0) nL cells slots Q ad pc L (.int x :: r) σ := by
  intro H locs ls hW hL hV
  refine vn_i2f hx hb (hml.trans hL.2.1.symm) hown (ht _ hlk) (ht _ q1117) (ht _ q1116) (ht _ q171) (b := x) ?_ hRf (by rw [wd_map]; omega) hd (k H locs ls hW hL ⟨fqc trivial (fq1 hV.1), hV.2⟩)
  unfold vn_sni2f
  have h1 : ¬ (x.toUInt32 &&& 0x7fffffff > 0x7f800000) := UInt32.not_lt.mpr hv
  simp [h1]
theorem sn_copy {sp dp n : Int32} (hx : p.tables.exec = Jvm.exec) (hb : c.code = cc) (hml : c.maxLocals = nL) (hK : va_K D CL (TYS dA) s) (ht : ∀ w ∈ lw_all, w.before args s = true) (hN : NWs s) (hown : s.vm.findClass own = some m.cls) (hlk : Cond.methodLink own i arraycopyName ∈ lw_all) (hc : am_cpy md σ a sp b dp n = some σ1) (hd : decode cc pc = .ok (.invokestatic i, 3)) (hwd : am_wd r ≤ 8) (hRf : 1 ≤ R.frames) (hRl : 64 ≤ R.locals) (k : GL p l e R s m args below meth c D dA md (AA z0) nL cells slots Q ad (pc + 3) L r σ1) : GL p l e R s m args below meth c D dA md (AA z0) nL cells slots Q ad pc L (.int n :: .int dp :: .ref b :: .int sp :: .ref a :: r) σ := by
  intro H locs ls hW hL hV
  unfold am_cpy at hc
  have hV1 : ∀ v ∈ r, vok σ v := fun v hv => hV.1 v (List.mem_cons_of_mem _ (List.mem_cons_of_mem _ (List.mem_cons_of_mem _ (List.mem_cons_of_mem _ (List.mem_cons_of_mem _ hv)))))
  have hw : (nativeFrameWords "java/lang/System" "arraycopy" 5 + 11) ≤ 40 := by decide +kernel
  split at hc
  · rename_i hq
    obtain ⟨hk, h1, h2, h3, h4, h5⟩ := hq
    split at hc
    · rename_i hk1
      cases hc
      have hkb : (kdT md σ b).1 = 1 := by omega
      have ha := hW.2.2.2.lt (a := a) (by omega)
      have hbl := hW.2.2.2.lt (a := b) (by omega)
      exact va_copyi (ty := .int) hx hb (hml.trans hL.2.1.symm) hown (ht _ hlk) (ht _ q825) (ht _ q824) (ht _ q161) hK hW.1 hW.2.1 hW.2.2.1 a b 0 0 ((e_at ha).trans (by rw [e_1 hk1])) ((e_at hbl).trans (by rw [e_1 hkb])) rfl rfl rfl h1 h2 h3 h4 h5 (fun _ _ => rfl) hRf (by rw [wd_map]; omega) hd (fun H1 locs1 g1 g2 g3 => k H1 locs1 ls (by
        have he : e_E ad dA md (cpi σ a sp.toNatClampNeg b dp.toNatClampNeg n.toNatClampNeg) b = .inl (dA 1, (kdT md σ b).2, .inl (va_cpy (gi σ a) (gi σ b) sp.toNatClampNeg dp.toNatClampNeg n.toNatClampNeg)) := by
          rw [e_1 (show (kdT md (cpi σ a sp.toNatClampNeg b dp.toNatClampNeg n.toNatClampNeg) b).1 = 1 from hkb), gi_cpi]
          rfl
        rw [← he, e_set (σ := σ) (τ := cpi σ a sp.toNatClampNeg b dp.toNatClampNeg n.toNatClampNeg) rfl (fun c hc => e_cg rfl (gi_cpi_ne hc) rfl rfl)] at g1 g2
        exact ⟨g1, g2, g3, WFs_cpi hW.2.2.2 (fun h => by omega)⟩) hL ⟨hV1, hV.2⟩)
    · rename_i hk1
      cases hc
      have hkb : (kdT md σ b).1 = 2 := by omega
      have ha := hW.2.2.2.lt (a := a) (by omega)
      have hbl := hW.2.2.2.lt (a := b) (by omega)
      exact va_copyl (ty := .long) hx hb (hml.trans hL.2.1.symm) hown (ht _ hlk) (ht _ q825) (ht _ q824) (ht _ q161) hK hW.1 hW.2.1 hW.2.2.1 a b 1 1 ((e_at ha).trans (by rw [e_2 hk1])) ((e_at hbl).trans (by rw [e_2 hkb])) rfl rfl rfl h1 h2 h3 h4 h5 (fun _ _ => rfl) hRf (by rw [wd_map]; omega) hd (fun H1 locs1 g1 g2 g3 => k H1 locs1 ls (by
        have he : e_E ad dA md (cpl σ a sp.toNatClampNeg b dp.toNatClampNeg n.toNatClampNeg) b = .inl (dA 2, (kdT md σ b).2, .inr (.inl (va_cpy (gl σ a) (gl σ b) sp.toNatClampNeg dp.toNatClampNeg n.toNatClampNeg))) := by
          rw [e_2 (show (kdT md (cpl σ a sp.toNatClampNeg b dp.toNatClampNeg n.toNatClampNeg) b).1 = 2 from hkb), gl_cpl]
          rfl
        rw [← he, e_set (σ := σ) (τ := cpl σ a sp.toNatClampNeg b dp.toNatClampNeg n.toNatClampNeg) rfl (fun c hc => e_cg rfl rfl (gl_cpl_ne hc) rfl)] at g1 g2
        exact ⟨g1, g2, g3, hW.2.2.2⟩) hL ⟨hV1, hV.2⟩)
    · rename_i hk1
      cases hc
      have hkb : (kdT md σ b).1 = 3 := by omega
      have ha := hW.2.2.2.lt (a := a) (by omega)
      have hbl := hW.2.2.2.lt (a := b) (by omega)
      exact va_copyi (ty := .byte) hx hb (hml.trans hL.2.1.symm) hown (ht _ hlk) (ht _ q825) (ht _ q824) (ht _ q161) hK hW.1 hW.2.1 hW.2.2.1 a b 2 2 ((e_at ha).trans (by rw [e_3 hk1])) ((e_at hbl).trans (by rw [e_3 hkb])) rfl rfl rfl h1 h2 h3 h4 h5 (fun i _ => by
        have := hW.2.2.2.2.2.2.2.2.2.1 a (sp.toNatClampNeg + i) hk1
        rw [← this]
        exact pk_fb _) hRf (by rw [wd_map]; omega) hd (fun H1 locs1 g1 g2 g3 => k H1 locs1 ls (by
        have he : e_E ad dA md (cpi σ a sp.toNatClampNeg b dp.toNatClampNeg n.toNatClampNeg) b = .inl (dA 3, (kdT md σ b).2, .inl (va_cpy (gi σ a) (gi σ b) sp.toNatClampNeg dp.toNatClampNeg n.toNatClampNeg)) := by
          rw [e_3 (show (kdT md (cpi σ a sp.toNatClampNeg b dp.toNatClampNeg n.toNatClampNeg) b).1 = 3 from hkb), gi_cpi]
          rfl
        rw [← he, e_set (σ := σ) (τ := cpi σ a sp.toNatClampNeg b dp.toNatClampNeg n.toNatClampNeg) rfl (fun c hc => e_cg rfl (gi_cpi_ne hc) rfl rfl)] at g1 g2
        exact ⟨g1, g2, g3, WFs_cpi hW.2.2.2 (fun h => hk1)⟩) hL ⟨hV1, hV.2⟩)
    · rename_i hk1
      cases hc
      have hkb : (kdT md σ b).1 = 5 := by omega
      have ha := hW.2.2.2.lt (a := a) (by omega)
      have hbl := hW.2.2.2.lt (a := b) (by omega)
      exact va_copyM (E0 := "java/lang/Object") (E1 := "java/lang/Object") hx hb (hml.trans hL.2.1.symm) hown (ht _ hlk) (ht _ q825) (ht _ q824) (ht _ q161) hK hW.1 hW.2.1 hW.2.2.1 a b 4 4 ((e_at ha).trans (by rw [e_56 (Or.inl hk1), hk1])) ((e_at hbl).trans (by rw [e_56 (Or.inl hkb), hkb])) rfl rfl h1 h2 h3 h4 h5 (fun i hi y hy => by
        cases hg : gr σ a (sp.toNatClampNeg + i) with
        | none => rw [hg] at hy; cases hy
        | some x =>
          rw [hg] at hy
          cases hy
          have hx10 := hW.2.2.2.2.2.2.2.2.2.2 a _ x hk1 hg
          have hxx := hW.2.2.2.lt (a := x) (by omega)
          obtain ⟨q, hq⟩ := hW.2.2.2.kind hx10
          have hatx := (e_at (ad := ad) (dA := dA) hxx).trans (by rw [e_o hx10])
          exact va_rAny hK hW.1 hatx hq (vb_asgC (hN _ (CAO_ok _ _ hq) rfl))) hRf (by rw [wd_map]; omega) hd (fun H1 locs1 g1 g2 g3 => k H1 locs1 ls (by
        have he : e_E ad dA md (cpr σ a sp.toNatClampNeg b dp.toNatClampNeg n.toNatClampNeg) b = .inl (dA 5, (kdT md σ b).2, .inr (.inr (.inr (.inr (va_cpy (fun i => (gr σ a i).map ad) (fun i => (gr σ b i).map ad) sp.toNatClampNeg dp.toNatClampNeg n.toNatClampNeg))))) := by
          rw [e_56 (Or.inl (show (kdT md (cpr σ a sp.toNatClampNeg b dp.toNatClampNeg n.toNatClampNeg) b).1 = 5 from hkb)), gr_cpr, cpy_map, show (kdT md (cpr σ a sp.toNatClampNeg b dp.toNatClampNeg n.toNatClampNeg) b).1 = 5 from hkb]
          rfl
        rw [← he, e_set (σ := σ) (τ := cpr σ a sp.toNatClampNeg b dp.toNatClampNeg n.toNatClampNeg) rfl (fun c hc => e_cg rfl rfl rfl (gr_cpr_ne hc))] at g1 g2
        exact ⟨g1, g2, g3, WFs_cpr hW.2.2.2 hk1 hkb⟩) hL ⟨hV1, hV.2⟩)
    · cases hc
  · cases hc
end SNC2
