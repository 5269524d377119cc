/-! SOUNDNESS 1: instructions that leave the heap alone -/
set_option maxRecDepth 100000
section SND
variable {p : Program} {l : Launch} {e : Env} {R : Room} {s : State} {m : MethodId} {args : Array Value} {below : List Frame} {meth : Method} {c : Code} {cells slots : Nat} {Q : State → Prop} {cc : ByteArray} {D : va_G} {dA : Nat → Nat} {md : Bool} {A : Nat → Prop} {nL : Nat} {ad : Nat → Nat} {pc : Nat} {L : Lo} {r : List Value} {σ : Sg}
/-- from here on the machine comes to Q, whatever heap and locals lie as the pure state says -/
def GL (p : Program) (l : Launch) (e : Env) (R : Room) (s : State) (m : MethodId) (args : Array Value) (below : List Frame) (meth : Method) (c : Code) (D : va_G) (dA : Nat → Nat) (md : Bool) (A : Nat → Prop) (nL cells slots : Nat) (Q : State → Prop) (ad : Nat → Nat) (pc : Nat) (L : Lo) (st : List Value) (σ : Sg) : Prop :=
  ∀ (H : Heap) (locs : List Loc) (ls : Array Slot), WO D dA md A s ad σ H locs → lvR ad L ls nL → VOK σ L st → W p l e R s m args below meth c H locs cells slots Q (F0 m pc ls (st.map (mv ad)))
theorem fq1 {a : Value} {r : List Value} {P : Value → Prop} (h : ∀ v ∈ a :: r, P v) : ∀ v ∈ r, P v := fun v q => h v (List.mem_cons_of_mem _ q)
theorem fq2 {a b : Value} {r : List Value} {P : Value → Prop} (h : ∀ v ∈ a :: b :: r, P v) : ∀ v ∈ r, P v := fq1 (fq1 h)
theorem fqc {a : Value} {r : List Value} {P : Value → Prop} (ha : P a) (h : ∀ v ∈ r, P v) : ∀ v ∈ a :: r, P v := List.forall_mem_cons.mpr ⟨ha, h⟩
theorem st1_mem {ad : Nat → Nat} {L : Lo} {k : Nat} {x : Value} (i : Nat) (v : Value) (h : (am_s1 L k x)[i]? = some (some v)) : (i, mv ad v) ∈ (k, mv ad x) :: (toL ad L).filter (fun q => !(q.1 == k) && !(q.1 + 1 == k && q.2.category == 2)) := by
  rcases s1_at h with ⟨h1, h2⟩ | ⟨h1, h2, h3⟩
  · rw [h1, h2]; exact List.mem_cons_self
  · refine List.mem_cons_of_mem _ (List.mem_filter.mpr ⟨mem_toL.mpr ⟨v, h2, rfl⟩, ?_⟩)
    by_cases h4 : i + 1 = k
    · simp [h1, h4, mv_cat, h3 h4]
    · simp [h1, h4]
theorem st2_mem {ad : Nat → Nat} {L : Lo} {k : Nat} {x : Value} (i : Nat) (v : Value) (h : (am_s2 L k x)[i]? = some (some v)) : (i, mv ad v) ∈ (k, mv ad x) :: (toL ad L).filter (fun q => !(q.1 == k) && (!(q.1 == k + 1) && !(q.1 + 1 == k && q.2.category == 2))) := by
  rcases s2_at h with ⟨h1, h2⟩ | ⟨h1, h1b, h2, h3⟩
  · rw [h1, h2]; exact List.mem_cons_self
  · refine List.mem_cons_of_mem _ (List.mem_filter.mpr ⟨mem_toL.mpr ⟨v, h2, rfl⟩, ?_⟩)
    by_cases h4 : i + 1 = k
    · simp [h1, h1b, h4, mv_cat, h3 h4]
    · simp [h1, h1b, h4]
theorem vok_s1 {σ : Sg} {L : Lo} {k : Nat} {x : Value} (hx : vok σ x) (h : ∀ (i : Nat) (v : Value), L[i]? = some (some v) → vok σ v) : ∀ (i : Nat) (v : Value), (am_s1 L k x)[i]? = some (some v) → vok σ v := by
  intro i v hv
  rcases s1_at hv with ⟨h1, h2⟩ | ⟨h1, h2, h3⟩
  · rw [h2]; exact hx
  · exact h i v h2
theorem vok_s2 {σ : Sg} {L : Lo} {k : Nat} {x : Value} (hx : vok σ x) (h : ∀ (i : Nat) (v : Value), L[i]? = some (some v) → vok σ v) : ∀ (i : Nat) (v : Value), (am_s2 L k x)[i]? = some (some v) → vok σ v := by
  intro i v hv
  rcases s2_at hv with ⟨h1, h2⟩ | ⟨h1, h1b, h2, h3⟩
  · rw [h2]; exact hx
  · exact h i v h2
theorem vok_rf' {σ : Sg} {L : Lo} {i : Nat} {v : Value} (h : ∀ (i : Nat) (v : Value), L[i]? = some (some v) → vok σ v) (hl : L[i]? = some (some v)) : vok σ v := h i v hl
theorem sn_iconst (hx : p.tables.exec = Jvm.exec) (hb : c.code = cc) {n : Int} (hd : decode cc pc = .ok (.iconst n, 1)) (k : GL p l e R s m args below meth c D dA md A nL cells slots Q ad (pc + 1) L (.int (Int32.ofInt n) :: r) σ) : GL p l e R s m args below meth c D dA md A nL cells slots Q ad pc L (r) σ :=
  fun H locs ls hW hL hV => lv_iconst hx hb hd rfl (k H locs ls hW hL ⟨fqc trivial hV.1, hV.2⟩)
theorem sn_bipush (hx : p.tables.exec = Jvm.exec) (hb : c.code = cc) {n : Int} (hd : decode cc pc = .ok (.bipush n, 2)) (k : GL p l e R s m args below meth c D dA md A nL cells slots Q ad (pc + 2) L (.int (Int8.ofInt n).toInt32 :: r) σ) : GL p l e R s m args below meth c D dA md A nL cells slots Q ad pc L (r) σ :=
  fun H locs ls hW hL hV => lv_bipush hx hb hd rfl (k H locs ls hW hL ⟨fqc trivial hV.1, hV.2⟩)
theorem sn_sipush (hx : p.tables.exec = Jvm.exec) (hb : c.code = cc) {n : Int} (hd : decode cc pc = .ok (.sipush n, 3)) (k : GL p l e R s m args below meth c D dA md A nL cells slots Q ad (pc + 3) L (.int (Int16.ofInt n).toInt32 :: r) σ) : GL p l e R s m args below meth c D dA md A nL cells slots Q ad pc L (r) σ :=
  fun H locs ls hW hL hV => lv_sipush hx hb hd rfl (k H locs ls hW hL ⟨fqc trivial hV.1, hV.2⟩)
theorem sn_lconst (hx : p.tables.exec = Jvm.exec) (hb : c.code = cc) {n : Fin 2} (hd : decode cc pc = .ok (.lconst n, 1)) (k : GL p l e R s m args below meth c D dA md A nL cells slots Q ad (pc + 1) L (.long (Int64.ofNat (n : Nat)) :: r) σ) : GL p l e R s m args below meth c D dA md A nL cells slots Q ad pc L (r) σ :=
  fun H locs ls hW hL hV => lv_lconst hx hb hd rfl (k H locs ls hW hL ⟨fqc trivial hV.1, hV.2⟩)
theorem sn_dconst (hx : p.tables.exec = Jvm.exec) (hb : c.code = cc) (hd : decode cc pc = .ok (.dconst 0, 1)) (k : GL p l e R s m args below meth c D dA md A nL cells slots Q ad (pc + 1) L (.double FP.dconst0 :: r) σ) : GL p l e R s m args below meth c D dA md A nL cells slots Q ad pc L (r) σ :=
  fun H locs ls hW hL hV => lv_dconst0 hx hb hd (k H locs ls hW hL ⟨fqc trivial hV.1, hV.2⟩)
theorem sn_null (hx : p.tables.exec = Jvm.exec) (hb : c.code = cc) (hd : decode cc pc = .ok (.aconst_null, 1)) (k : GL p l e R s m args below meth c D dA md A nL cells slots Q ad (pc + 1) L (.null :: r) σ) : GL p l e R s m args below meth c D dA md A nL cells slots Q ad pc L (r) σ :=
  fun H locs ls hW hL hV => lv_null hx hb hd (k H locs ls hW hL ⟨fqc trivial hV.1, hV.2⟩)
theorem sn_iload_n (hx : p.tables.exec = Jvm.exec) (hb : c.code = cc) {n : Fin 4} {x : Int32} (hd : decode cc pc = .ok (.iload_n n, 1)) (hl : L[(n : Nat)]? = some (some (.int x))) (k : GL p l e R s m args below meth c D dA md A nL cells slots Q ad (pc + 1) L (.int x :: r) σ) : GL p l e R s m args below meth c D dA md A nL cells slots Q ad pc L (r) σ :=
  fun H locs ls hW hL hV => lv_iload_n hx hb hd rfl (hL.2.2.2 _ _ hl) (k H locs ls hW hL ⟨fqc trivial hV.1, hV.2⟩)
theorem sn_lload_n (hx : p.tables.exec = Jvm.exec) (hb : c.code = cc) {n : Fin 4} {x : Int64} (hd : decode cc pc = .ok (.lload_n n, 1)) (hl : L[(n : Nat)]? = some (some (.long x))) (k : GL p l e R s m args below meth c D dA md A nL cells slots Q ad (pc + 1) L (.long x :: r) σ) : GL p l e R s m args below meth c D dA md A nL cells slots Q ad pc L (r) σ :=
  fun H locs ls hW hL hV => lv_lload_n hx hb hd rfl (hL.2.2.2 _ _ hl) (k H locs ls hW hL ⟨fqc trivial hV.1, hV.2⟩)
theorem sn_fload_n (hx : p.tables.exec = Jvm.exec) (hb : c.code = cc) {n : Fin 4} {x : UInt32} (hd : decode cc pc = .ok (.fload_n n, 1)) (hl : L[(n : Nat)]? = some (some (.float x))) (k : GL p l e R s m args below meth c D dA md A nL cells slots Q ad (pc + 1) L (.float x :: r) σ) : GL p l e R s m args below meth c D dA md A nL cells slots Q ad pc L (r) σ :=
  fun H locs ls hW hL hV => lv_fload_n hx hb hd rfl (hL.2.2.2 _ _ hl) (k H locs ls hW hL ⟨fqc trivial hV.1, hV.2⟩)
theorem sn_dload_n (hx : p.tables.exec = Jvm.exec) (hb : c.code = cc) {n : Fin 4} {x : UInt64} (hd : decode cc pc = .ok (.dload_n n, 1)) (hl : L[(n : Nat)]? = some (some (.double x))) (k : GL p l e R s m args below meth c D dA md A nL cells slots Q ad (pc + 1) L (.double x :: r) σ) : GL p l e R s m args below meth c D dA md A nL cells slots Q ad pc L (r) σ :=
  fun H locs ls hW hL hV => lv_dload_n hx hb hd rfl (hL.2.2.2 _ _ hl) (k H locs ls hW hL ⟨fqc trivial hV.1, hV.2⟩)
theorem sn_iload (hx : p.tables.exec = Jvm.exec) (hb : c.code = cc) {n : Nat} {x : Int32} (hd : decode cc pc = .ok (.iload n, 2)) (hl : L[n]? = some (some (.int x))) (k : GL p l e R s m args below meth c D dA md A nL cells slots Q ad (pc + 2) L (.int x :: r) σ) : GL p l e R s m args below meth c D dA md A nL cells slots Q ad pc L (r) σ :=
  fun H locs ls hW hL hV => lv_iload hx hb hd (hL.2.2.2 _ _ hl) (k H locs ls hW hL ⟨fqc trivial hV.1, hV.2⟩)
theorem sn_lload (hx : p.tables.exec = Jvm.exec) (hb : c.code = cc) {n : Nat} {x : Int64} (hd : decode cc pc = .ok (.lload n, 2)) (hl : L[n]? = some (some (.long x))) (k : GL p l e R s m args below meth c D dA md A nL cells slots Q ad (pc + 2) L (.long x :: r) σ) : GL p l e R s m args below meth c D dA md A nL cells slots Q ad pc L (r) σ :=
  fun H locs ls hW hL hV => lv_lload hx hb hd (hL.2.2.2 _ _ hl) (k H locs ls hW hL ⟨fqc trivial hV.1, hV.2⟩)
theorem sn_aload_n (hx : p.tables.exec = Jvm.exec) (hb : c.code = cc) {n : Fin 4} {x : Nat} (hd : decode cc pc = .ok (.aload_n n, 1)) (hl : L[(n : Nat)]? = some (some (.ref x))) (k : GL p l e R s m args below meth c D dA md A nL cells slots Q ad (pc + 1) L (.ref x :: r) σ) : GL p l e R s m args below meth c D dA md A nL cells slots Q ad pc L (r) σ :=
  fun H locs ls hW hL hV => lv_aload_n hx hb hd rfl (hL.2.2.2 _ _ hl) (k H locs ls hW hL ⟨fqc (hV.2 _ _ hl) hV.1, hV.2⟩)
theorem sn_aload (hx : p.tables.exec = Jvm.exec) (hb : c.code = cc) {n : Nat} {x : Nat} (hd : decode cc pc = .ok (.aload n, 2)) (hl : L[n]? = some (some (.ref x))) (k : GL p l e R s m args below meth c D dA md A nL cells slots Q ad (pc + 2) L (.ref x :: r) σ) : GL p l e R s m args below meth c D dA md A nL cells slots Q ad pc L (r) σ :=
  fun H locs ls hW hL hV => lv_aload hx hb hd (hL.2.2.2 _ _ hl) (k H locs ls hW hL ⟨fqc (hV.2 _ _ hl) hV.1, hV.2⟩)
theorem sn_aload_nN (hx : p.tables.exec = Jvm.exec) (hb : c.code = cc) {n : Fin 4} (hd : decode cc pc = .ok (.aload_n n, 1)) (hl : L[(n : Nat)]? = some (some .null)) (k : GL p l e R s m args below meth c D dA md A nL cells slots Q ad (pc + 1) L (.null :: r) σ) : GL p l e R s m args below meth c D dA md A nL cells slots Q ad pc L (r) σ :=
  fun H locs ls hW hL hV => lv_aload_nN hx hb hd rfl (hL.2.2.2 _ _ hl) (k H locs ls hW hL ⟨fqc trivial hV.1, hV.2⟩)
theorem sn_aloadN (hx : p.tables.exec = Jvm.exec) (hb : c.code = cc) {n : Nat} (hd : decode cc pc = .ok (.aload n, 2)) (hl : L[n]? = some (some .null)) (k : GL p l e R s m args below meth c D dA md A nL cells slots Q ad (pc + 2) L (.null :: r) σ) : GL p l e R s m args below meth c D dA md A nL cells slots Q ad pc L (r) σ :=
  fun H locs ls hW hL hV => lv_aloadN hx hb hd (hL.2.2.2 _ _ hl) (k H locs ls hW hL ⟨fqc trivial hV.1, hV.2⟩)
theorem sn_istore_n (hx : p.tables.exec = Jvm.exec) (hb : c.code = cc) {n : Fin 4} {x : Int32} (hd : decode cc pc = .ok (.istore_n n, 1)) (hn : (n : Nat) < nL) (k : GL p l e R s m args below meth c D dA md A nL cells slots Q ad (pc + 1) (am_s1 L (n : Nat) (.int x)) (r) σ) : GL p l e R s m args below meth c D dA md A nL cells slots Q ad pc L (.int x :: r) σ :=
  fun H locs ls hW hL hV => lv_istore_n hx hb hd rfl hL.has hn rfl (fun ls1 h1 => k H locs ls1 hW (lvR.of h1 ((s1_len L _ _).trans hL.1) (fun i v hv => st1_mem i v hv)) ⟨fq1 hV.1, vok_s1 (trivial) hV.2⟩)
theorem sn_lstore_n (hx : p.tables.exec = Jvm.exec) (hb : c.code = cc) {n : Fin 4} {x : Int64} (hd : decode cc pc = .ok (.lstore_n n, 1)) (hn : (n : Nat) + 1 < nL) (k : GL p l e R s m args below meth c D dA md A nL cells slots Q ad (pc + 1) (am_s2 L (n : Nat) (.long x)) (r) σ) : GL p l e R s m args below meth c D dA md A nL cells slots Q ad pc L (.long x :: r) σ :=
  fun H locs ls hW hL hV => lv_lstore_n hx hb hd rfl hL.has hn rfl (fun ls1 h1 => k H locs ls1 hW (lvR.of h1 ((s2_len L _ _).trans hL.1) (fun i v hv => st2_mem i v hv)) ⟨fq1 hV.1, vok_s2 (trivial) hV.2⟩)
theorem sn_dstore_n (hx : p.tables.exec = Jvm.exec) (hb : c.code = cc) {n : Fin 4} {x : UInt64} (hd : decode cc pc = .ok (.dstore_n n, 1)) (hn : (n : Nat) + 1 < nL) (k : GL p l e R s m args below meth c D dA md A nL cells slots Q ad (pc + 1) (am_s2 L (n : Nat) (.double x)) (r) σ) : GL p l e R s m args below meth c D dA md A nL cells slots Q ad pc L (.double x :: r) σ :=
  fun H locs ls hW hL hV => lv_dstore_n hx hb hd rfl hL.has hn rfl (fun ls1 h1 => k H locs ls1 hW (lvR.of h1 ((s2_len L _ _).trans hL.1) (fun i v hv => st2_mem i v hv)) ⟨fq1 hV.1, vok_s2 (trivial) hV.2⟩)
theorem sn_istore (hx : p.tables.exec = Jvm.exec) (hb : c.code = cc) {n : Nat} {x : Int32} (hd : decode cc pc = .ok (.istore n, 2)) (hn : n < nL) (k : GL p l e R s m args below meth c D dA md A nL cells slots Q ad (pc + 2) (am_s1 L n (.int x)) (r) σ) : GL p l e R s m args below meth c D dA md A nL cells slots Q ad pc L (.int x :: r) σ :=
  fun H locs ls hW hL hV => lv_istore hx hb hd hL.has hn rfl (fun ls1 h1 => k H locs ls1 hW (lvR.of h1 ((s1_len L _ _).trans hL.1) (fun i v hv => st1_mem i v hv)) ⟨fq1 hV.1, vok_s1 (trivial) hV.2⟩)
theorem sn_lstore (hx : p.tables.exec = Jvm.exec) (hb : c.code = cc) {n : Nat} {x : Int64} (hd : decode cc pc = .ok (.lstore n, 2)) (hn : n + 1 < nL) (k : GL p l e R s m args below meth c D dA md A nL cells slots Q ad (pc + 2) (am_s2 L n (.long x)) (r) σ) : GL p l e R s m args below meth c D dA md A nL cells slots Q ad pc L (.long x :: r) σ :=
  fun H locs ls hW hL hV => lv_lstore hx hb hd hL.has hn rfl (fun ls1 h1 => k H locs ls1 hW (lvR.of h1 ((s2_len L _ _).trans hL.1) (fun i v hv => st2_mem i v hv)) ⟨fq1 hV.1, vok_s2 (trivial) hV.2⟩)
theorem sn_astore_n (hx : p.tables.exec = Jvm.exec) (hb : c.code = cc) {n : Fin 4} {x : Nat} (hd : decode cc pc = .ok (.astore_n n, 1)) (hn : (n : Nat) < nL) (k : GL p l e R s m args below meth c D dA md A nL cells slots Q ad (pc + 1) (am_s1 L (n : Nat) (.ref x)) (r) σ) : GL p l e R s m args below meth c D dA md A nL cells slots Q ad pc L (.ref x :: r) σ :=
  fun H locs ls hW hL hV => lv_astore_n hx hb hd rfl hL.has hn rfl (fun ls1 h1 => k H locs ls1 hW (lvR.of h1 ((s1_len L _ _).trans hL.1) (fun i v hv => st1_mem i v hv)) ⟨fq1 hV.1, vok_s1 (hV.1 _ List.mem_cons_self) hV.2⟩)
theorem sn_astore (hx : p.tables.exec = Jvm.exec) (hb : c.code = cc) {n : Nat} {x : Nat} (hd : decode cc pc = .ok (.astore n, 2)) (hn : n < nL) (k : GL p l e R s m args below meth c D dA md A nL cells slots Q ad (pc + 2) (am_s1 L n (.ref x)) (r) σ) : GL p l e R s m args below meth c D dA md A nL cells slots Q ad pc L (.ref x :: r) σ :=
  fun H locs ls hW hL hV => lv_astore hx hb hd hL.has hn rfl (fun ls1 h1 => k H locs ls1 hW (lvR.of h1 ((s1_len L _ _).trans hL.1) (fun i v hv => st1_mem i v hv)) ⟨fq1 hV.1, vok_s1 (hV.1 _ List.mem_cons_self) hV.2⟩)
theorem sn_astore_nN (hx : p.tables.exec = Jvm.exec) (hb : c.code = cc) {n : Fin 4} (hd : decode cc pc = .ok (.astore_n n, 1)) (hn : (n : Nat) < nL) (k : GL p l e R s m args below meth c D dA md A nL cells slots Q ad (pc + 1) (am_s1 L (n : Nat) (.null)) (r) σ) : GL p l e R s m args below meth c D dA md A nL cells slots Q ad pc L (.null :: r) σ :=
  fun H locs ls hW hL hV => lv_astore_nN hx hb hd rfl hL.has hn rfl (fun ls1 h1 => k H locs ls1 hW (lvR.of h1 ((s1_len L _ _).trans hL.1) (fun i v hv => st1_mem i v hv)) ⟨fq1 hV.1, vok_s1 (trivial) hV.2⟩)
theorem sn_astoreN (hx : p.tables.exec = Jvm.exec) (hb : c.code = cc) {n : Nat} (hd : decode cc pc = .ok (.astore n, 2)) (hn : n < nL) (k : GL p l e R s m args below meth c D dA md A nL cells slots Q ad (pc + 2) (am_s1 L n (.null)) (r) σ) : GL p l e R s m args below meth c D dA md A nL cells slots Q ad pc L (.null :: r) σ :=
  fun H locs ls hW hL hV => lv_astoreN hx hb hd hL.has hn rfl (fun ls1 h1 => k H locs ls1 hW (lvR.of h1 ((s1_len L _ _).trans hL.1) (fun i v hv => st1_mem i v hv)) ⟨fq1 hV.1, vok_s1 (trivial) hV.2⟩)
theorem sn_iinc (hx : p.tables.exec = Jvm.exec) (hb : c.code = cc) {n : Nat} {dd : Int} {x : Int32} (hd : decode cc pc = .ok (.iinc n dd, 3)) (hl : L[n]? = some (some (.int x))) (hn : n < nL) (k : GL p l e R s m args below meth c D dA md A nL cells slots Q ad (pc + 3) (am_s1 L n (.int (x + Int32.ofInt dd))) (r) σ) : GL p l e R s m args below meth c D dA md A nL cells slots Q ad pc L (r) σ := by
  intro H locs ls hW hL hV
  obtain ⟨j, hj⟩ := List.getElem?_of_mem (mem_toL (ad := ad) (q := (n, .int x)) |>.mpr ⟨_, hl, rfl⟩)
  exact lv_iinc hx hb hd hL.has hj rfl hn rfl (fun ls1 h1 => k H locs ls1 hW (lvR.of h1 ((s1_len L _ _).trans hL.1) (fun i v hv => st1_mem i v hv)) ⟨hV.1, vok_s1 trivial hV.2⟩)
theorem sn_iadd (hx : p.tables.exec = Jvm.exec) (hb : c.code = cc) {x y : Int32} (hd : decode cc pc = .ok (.iadd, 1)) (k : GL p l e R s m args below meth c D dA md A nL cells slots Q ad (pc + 1) L (.int (x + y) :: r) σ) : GL p l e R s m args below meth c D dA md A nL cells slots Q ad pc L (.int y :: .int x :: r) σ :=
  fun H locs ls hW hL hV => lv_iadd hx hb hd (k H locs ls hW hL ⟨fqc trivial (fq2 hV.1), hV.2⟩)
theorem sn_isub (hx : p.tables.exec = Jvm.exec) (hb : c.code = cc) {x y : Int32} (hd : decode cc pc = .ok (.isub, 1)) (k : GL p l e R s m args below meth c D dA md A nL cells slots Q ad (pc + 1) L (.int (x - y) :: r) σ) : GL p l e R s m args below meth c D dA md A nL cells slots Q ad pc L (.int y :: .int x :: r) σ :=
  fun H locs ls hW hL hV => lv_isub hx hb hd (k H locs ls hW hL ⟨fqc trivial (fq2 hV.1), hV.2⟩)
theorem sn_imul (hx : p.tables.exec = Jvm.exec) (hb : c.code = cc) {x y : Int32} (hd : decode cc pc = .ok (.imul, 1)) (k : GL p l e R s m args below meth c D dA md A nL cells slots Q ad (pc + 1) L (.int (x * y) :: r) σ) : GL p l e R s m args below meth c D dA md A nL cells slots Q ad pc L (.int y :: .int x :: r) σ :=
  fun H locs ls hW hL hV => lv_imul hx hb hd (k H locs ls hW hL ⟨fqc trivial (fq2 hV.1), hV.2⟩)
theorem sn_iand (hx : p.tables.exec = Jvm.exec) (hb : c.code = cc) {x y : Int32} (hd : decode cc pc = .ok (.iand, 1)) (k : GL p l e R s m args below meth c D dA md A nL cells slots Q ad (pc + 1) L (.int (x &&& y) :: r) σ) : GL p l e R s m args below meth c D dA md A nL cells slots Q ad pc L (.int y :: .int x :: r) σ :=
  fun H locs ls hW hL hV => lv_iand hx hb hd (k H locs ls hW hL ⟨fqc trivial (fq2 hV.1), hV.2⟩)
theorem sn_ior (hx : p.tables.exec = Jvm.exec) (hb : c.code = cc) {x y : Int32} (hd : decode cc pc = .ok (.ior, 1)) (k : GL p l e R s m args below meth c D dA md A nL cells slots Q ad (pc + 1) L (.int (x ||| y) :: r) σ) : GL p l e R s m args below meth c D dA md A nL cells slots Q ad pc L (.int y :: .int x :: r) σ :=
  fun H locs ls hW hL hV => lv_ior hx hb hd (k H locs ls hW hL ⟨fqc trivial (fq2 hV.1), hV.2⟩)
theorem sn_ixor (hx : p.tables.exec = Jvm.exec) (hb : c.code = cc) {x y : Int32} (hd : decode cc pc = .ok (.ixor, 1)) (k : GL p l e R s m args below meth c D dA md A nL cells slots Q ad (pc + 1) L (.int (x ^^^ y) :: r) σ) : GL p l e R s m args below meth c D dA md A nL cells slots Q ad pc L (.int y :: .int x :: r) σ :=
  fun H locs ls hW hL hV => lv_ixor hx hb hd (k H locs ls hW hL ⟨fqc trivial (fq2 hV.1), hV.2⟩)
theorem sn_ishl (hx : p.tables.exec = Jvm.exec) (hb : c.code = cc) {x y : Int32} (hd : decode cc pc = .ok (.ishl, 1)) (k : GL p l e R s m args below meth c D dA md A nL cells slots Q ad (pc + 1) L (.int (x <<< (y &&& 31)) :: r) σ) : GL p l e R s m args below meth c D dA md A nL cells slots Q ad pc L (.int y :: .int x :: r) σ :=
  fun H locs ls hW hL hV => lv_ishl hx hb hd (k H locs ls hW hL ⟨fqc trivial (fq2 hV.1), hV.2⟩)
theorem sn_ishr (hx : p.tables.exec = Jvm.exec) (hb : c.code = cc) {x y : Int32} (hd : decode cc pc = .ok (.ishr, 1)) (k : GL p l e R s m args below meth c D dA md A nL cells slots Q ad (pc + 1) L (.int (x >>> (y &&& 31)) :: r) σ) : GL p l e R s m args below meth c D dA md A nL cells slots Q ad pc L (.int y :: .int x :: r) σ :=
  fun H locs ls hW hL hV => lv_ishr hx hb hd (k H locs ls hW hL ⟨fqc trivial (fq2 hV.1), hV.2⟩)
theorem sn_idiv (hx : p.tables.exec = Jvm.exec) (hb : c.code = cc) {x y : Int32} (hd : decode cc pc = .ok (.idiv, 1)) (hne : ¬ y = 0) (k : GL p l e R s m args below meth c D dA md A nL cells slots Q ad (pc + 1) L (.int (x / y) :: r) σ) : GL p l e R s m args below meth c D dA md A nL cells slots Q ad pc L (.int y :: .int x :: r) σ :=
  fun H locs ls hW hL hV => lv_idiv hx hb hd hne (k H locs ls hW hL ⟨fqc trivial (fq2 hV.1), hV.2⟩)
theorem sn_irem (hx : p.tables.exec = Jvm.exec) (hb : c.code = cc) {x y : Int32} (hd : decode cc pc = .ok (.irem, 1)) (hne : ¬ y = 0) (k : GL p l e R s m args below meth c D dA md A nL cells slots Q ad (pc + 1) L (.int (x - x / y * y) :: r) σ) : GL p l e R s m args below meth c D dA md A nL cells slots Q ad pc L (.int y :: .int x :: r) σ :=
  fun H locs ls hW hL hV => lv_irem hx hb hd hne (k H locs ls hW hL ⟨fqc trivial (fq2 hV.1), hV.2⟩)
theorem sn_iushr (hx : p.tables.exec = Jvm.exec) (hb : c.code = cc) {x y : Int32} (hd : decode cc pc = .ok (.iushr, 1)) (k : GL p l e R s m args below meth c D dA md A nL cells slots Q ad (pc + 1) L (.int ((x.toUInt32 >>> (y.toUInt32 &&& Int32.toUInt32 31)).toInt32) :: r) σ) : GL p l e R s m args below meth c D dA md A nL cells slots Q ad pc L (.int y :: .int x :: r) σ :=
  fun H locs ls hW hL hV => lv_iushr hx hb hd rfl (k H locs ls hW hL ⟨fqc trivial (fq2 hV.1), hV.2⟩)
theorem sn_ladd (hx : p.tables.exec = Jvm.exec) (hb : c.code = cc) {x y : Int64} (hd : decode cc pc = .ok (.ladd, 1)) (k : GL p l e R s m args below meth c D dA md A nL cells slots Q ad (pc + 1) L (.long (x + y) :: r) σ) : GL p l e R s m args below meth c D dA md A nL cells slots Q ad pc L (.long y :: .long x :: r) σ :=
  fun H locs ls hW hL hV => lv_ladd hx hb hd (k H locs ls hW hL ⟨fqc trivial (fq2 hV.1), hV.2⟩)
theorem sn_lsub (hx : p.tables.exec = Jvm.exec) (hb : c.code = cc) {x y : Int64} (hd : decode cc pc = .ok (.lsub, 1)) (k : GL p l e R s m args below meth c D dA md A nL cells slots Q ad (pc + 1) L (.long (x - y) :: r) σ) : GL p l e R s m args below meth c D dA md A nL cells slots Q ad pc L (.long y :: .long x :: r) σ :=
  fun H locs ls hW hL hV => lv_lsub hx hb hd (k H locs ls hW hL ⟨fqc trivial (fq2 hV.1), hV.2⟩)
theorem sn_lmul (hx : p.tables.exec = Jvm.exec) (hb : c.code = cc) {x y : Int64} (hd : decode cc pc = .ok (.lmul, 1)) (k : GL p l e R s m args below meth c D dA md A nL cells slots Q ad (pc + 1) L (.long (x * y) :: r) σ) : GL p l e R s m args below meth c D dA md A nL cells slots Q ad pc L (.long y :: .long x :: r) σ :=
  fun H locs ls hW hL hV => lv_lmul hx hb hd (k H locs ls hW hL ⟨fqc trivial (fq2 hV.1), hV.2⟩)
theorem sn_lxor (hx : p.tables.exec = Jvm.exec) (hb : c.code = cc) {x y : Int64} (hd : decode cc pc = .ok (.lxor, 1)) (k : GL p l e R s m args below meth c D dA md A nL cells slots Q ad (pc + 1) L (.long (x ^^^ y) :: r) σ) : GL p l e R s m args below meth c D dA md A nL cells slots Q ad pc L (.long y :: .long x :: r) σ :=
  fun H locs ls hW hL hV => lv_lxor hx hb hd (k H locs ls hW hL ⟨fqc trivial (fq2 hV.1), hV.2⟩)
theorem sn_ldiv (hx : p.tables.exec = Jvm.exec) (hb : c.code = cc) {x y : Int64} (hd : decode cc pc = .ok (.ldiv, 1)) (hne : ¬ y = 0) (k : GL p l e R s m args below meth c D dA md A nL cells slots Q ad (pc + 1) L (.long (x / y) :: r) σ) : GL p l e R s m args below meth c D dA md A nL cells slots Q ad pc L (.long y :: .long x :: r) σ :=
  fun H locs ls hW hL hV => lv_ldiv hx hb hd hne (k H locs ls hW hL ⟨fqc trivial (fq2 hV.1), hV.2⟩)
theorem sn_lrem (hx : p.tables.exec = Jvm.exec) (hb : c.code = cc) {x y : Int64} (hd : decode cc pc = .ok (.lrem, 1)) (hne : ¬ y = 0) (k : GL p l e R s m args below meth c D dA md A nL cells slots Q ad (pc + 1) L (.long (x - x / y * y) :: r) σ) : GL p l e R s m args below meth c D dA md A nL cells slots Q ad pc L (.long y :: .long x :: r) σ :=
  fun H locs ls hW hL hV => lv_lrem hx hb hd hne (k H locs ls hW hL ⟨fqc trivial (fq2 hV.1), hV.2⟩)
theorem sn_lshl (hx : p.tables.exec = Jvm.exec) (hb : c.code = cc) {x : Int64} {y : Int32} (hd : decode cc pc = .ok (.lshl, 1)) (k : GL p l e R s m args below meth c D dA md A nL cells slots Q ad (pc + 1) L (.long (x <<< (y.toInt64 &&& 63)) :: r) σ) : GL p l e R s m args below meth c D dA md A nL cells slots Q ad pc L (.int y :: .long x :: r) σ :=
  fun H locs ls hW hL hV => lv_lshl hx hb hd rfl (k H locs ls hW hL ⟨fqc trivial (fq2 hV.1), hV.2⟩)
theorem sn_lshr (hx : p.tables.exec = Jvm.exec) (hb : c.code = cc) {x : Int64} {y : Int32} (hd : decode cc pc = .ok (.lshr, 1)) (k : GL p l e R s m args below meth c D dA md A nL cells slots Q ad (pc + 1) L (.long (x >>> (y.toInt64 &&& 63)) :: r) σ) : GL p l e R s m args below meth c D dA md A nL cells slots Q ad pc L (.int y :: .long x :: r) σ :=
  fun H locs ls hW hL hV => lv_lshr hx hb hd rfl (k H locs ls hW hL ⟨fqc trivial (fq2 hV.1), hV.2⟩)
theorem sn_dadd (hx : p.tables.exec = Jvm.exec) (hb : c.code = cc) {x y : UInt64} (hd : decode cc pc = .ok (.dadd, 1)) (hne : vf_n64 (FP.dadd x y)) (k : GL p l e R s m args below meth c D dA md A nL cells slots Q ad (pc + 1) L (.double (FP.dadd x y) :: r) σ) : GL p l e R s m args below meth c D dA md A nL cells slots Q ad pc L (.double y :: .double x :: r) σ :=
  fun H locs ls hW hL hV => lv_dadd hx hb hd hne (k H locs ls hW hL ⟨fqc trivial (fq2 hV.1), hV.2⟩)
theorem sn_dsub (hx : p.tables.exec = Jvm.exec) (hb : c.code = cc) {x y : UInt64} (hd : decode cc pc = .ok (.dsub, 1)) (hne : vf_n64 (FP.dsub x y)) (k : GL p l e R s m args below meth c D dA md A nL cells slots Q ad (pc + 1) L (.double (FP.dsub x y) :: r) σ) : GL p l e R s m args below meth c D dA md A nL cells slots Q ad pc L (.double y :: .double x :: r) σ :=
  fun H locs ls hW hL hV => lv_dsub hx hb hd hne (k H locs ls hW hL ⟨fqc trivial (fq2 hV.1), hV.2⟩)
theorem sn_dmul (hx : p.tables.exec = Jvm.exec) (hb : c.code = cc) {x y : UInt64} (hd : decode cc pc = .ok (.dmul, 1)) (hne : vf_n64 (FP.dmul x y)) (k : GL p l e R s m args below meth c D dA md A nL cells slots Q ad (pc + 1) L (.double (FP.dmul x y) :: r) σ) : GL p l e R s m args below meth c D dA md A nL cells slots Q ad pc L (.double y :: .double x :: r) σ :=
  fun H locs ls hW hL hV => lv_dmul hx hb hd hne (k H locs ls hW hL ⟨fqc trivial (fq2 hV.1), hV.2⟩)
theorem sn_ineg (hx : p.tables.exec = Jvm.exec) (hb : c.code = cc) {x : Int32} (hd : decode cc pc = .ok (.ineg, 1)) (k : GL p l e R s m args below meth c D dA md A nL cells slots Q ad (pc + 1) L (.int (-x) :: r) σ) : GL p l e R s m args below meth c D dA md A nL cells slots Q ad pc L (.int x :: r) σ :=
  fun H locs ls hW hL hV => lv_ineg hx hb hd (k H locs ls hW hL ⟨fqc trivial (fq1 hV.1), hV.2⟩)
theorem sn_lneg (hx : p.tables.exec = Jvm.exec) (hb : c.code = cc) {x : Int64} (hd : decode cc pc = .ok (.lneg, 1)) (k : GL p l e R s m args below meth c D dA md A nL cells slots Q ad (pc + 1) L (.long (-x) :: r) σ) : GL p l e R s m args below meth c D dA md A nL cells slots Q ad pc L (.long x :: r) σ :=
  fun H locs ls hW hL hV => lv_lneg hx hb hd (k H locs ls hW hL ⟨fqc trivial (fq1 hV.1), hV.2⟩)
theorem sn_i2l (hx : p.tables.exec = Jvm.exec) (hb : c.code = cc) {x : Int32} (hd : decode cc pc = .ok (.i2l, 1)) (k : GL p l e R s m args below meth c D dA md A nL cells slots Q ad (pc + 1) L (.long (x.toInt64) :: r) σ) : GL p l e R s m args below meth c D dA md A nL cells slots Q ad pc L (.int x :: r) σ :=
  fun H locs ls hW hL hV => lv_i2l hx hb hd rfl (k H locs ls hW hL ⟨fqc trivial (fq1 hV.1), hV.2⟩)
theorem sn_l2i (hx : p.tables.exec = Jvm.exec) (hb : c.code = cc) {x : Int64} (hd : decode cc pc = .ok (.l2i, 1)) (k : GL p l e R s m args below meth c D dA md A nL cells slots Q ad (pc + 1) L (.int (x.toInt32) :: r) σ) : GL p l e R s m args below meth c D dA md A nL cells slots Q ad pc L (.long x :: r) σ :=
  fun H locs ls hW hL hV => lv_l2i hx hb hd rfl (k H locs ls hW hL ⟨fqc trivial (fq1 hV.1), hV.2⟩)
theorem sn_i2b (hx : p.tables.exec = Jvm.exec) (hb : c.code = cc) {x : Int32} (hd : decode cc pc = .ok (.i2b, 1)) (k : GL p l e R s m args below meth c D dA md A nL cells slots Q ad (pc + 1) L (.int (x.toInt8.toInt32) :: r) σ) : GL p l e R s m args below meth c D dA md A nL cells slots Q ad pc L (.int x :: r) σ :=
  fun H locs ls hW hL hV => lv_i2b hx hb hd rfl (k H locs ls hW hL ⟨fqc trivial (fq1 hV.1), hV.2⟩)
theorem sn_i2c (hx : p.tables.exec = Jvm.exec) (hb : c.code = cc) {x : Int32} (hd : decode cc pc = .ok (.i2c, 1)) (k : GL p l e R s m args below meth c D dA md A nL cells slots Q ad (pc + 1) L (.int ((x.toUInt32 % 65536).toInt32) :: r) σ) : GL p l e R s m args below meth c D dA md A nL cells slots Q ad pc L (.int x :: r) σ :=
  fun H locs ls hW hL hV => lv_i2c hx hb hd rfl (k H locs ls hW hL ⟨fqc trivial (fq1 hV.1), hV.2⟩)
theorem sn_d2i (hx : p.tables.exec = Jvm.exec) (hb : c.code = cc) {x : UInt64} (hd : decode cc pc = .ok (.d2i, 1)) (k : GL p l e R s m args below meth c D dA md A nL cells slots Q ad (pc + 1) L (.int (FP.d2i x) :: r) σ) : GL p l e R s m args below meth c D dA md A nL cells slots Q ad pc L (.double x :: r) σ :=
  fun H locs ls hW hL hV => lv_d2i hx hb hd (k H locs ls hW hL ⟨fqc trivial (fq1 hV.1), hV.2⟩)
theorem sn_f2d (hx : p.tables.exec = Jvm.exec) (hb : c.code = cc) {x : UInt32} (hd : decode cc pc = .ok (.f2d, 1)) (hne : vf_n64 (FP.f2d x)) (k : GL p l e R s m args below meth c D dA md A nL cells slots Q ad (pc + 1) L (.double (FP.f2d x) :: r) σ) : GL p l e R s m args below meth c D dA md A nL cells slots Q ad pc L (.float x :: r) σ :=
  fun H locs ls hW hL hV => lv_f2d hx hb hd hne (k H locs ls hW hL ⟨fqc trivial (fq1 hV.1), hV.2⟩)
theorem sn_dcmp (hx : p.tables.exec = Jvm.exec) (hb : c.code = cc) {x y : UInt64} {op : CmpOp} (hd : decode cc pc = .ok (.dcmp op, 1)) (k : GL p l e R s m args below meth c D dA md A nL cells slots Q ad (pc + 1) L (.int (Op.cmpValue (FP.dcmp x y) op) :: r) σ) : GL p l e R s m args below meth c D dA md A nL cells slots Q ad pc L (.double y :: .double x :: r) σ :=
  fun H locs ls hW hL hV => lv_dcmp hx hb hd (k H locs ls hW hL ⟨fqc trivial (fq2 hV.1), hV.2⟩)
theorem sn_fcmp (hx : p.tables.exec = Jvm.exec) (hb : c.code = cc) {x y : UInt32} {op : CmpOp} (hd : decode cc pc = .ok (.fcmp op, 1)) (k : GL p l e R s m args below meth c D dA md A nL cells slots Q ad (pc + 1) L (.int (Op.cmpValue (FP.fcmp x y) op) :: r) σ) : GL p l e R s m args below meth c D dA md A nL cells slots Q ad pc L (.float y :: .float x :: r) σ :=
  fun H locs ls hW hL hV => lv_fcmp hx hb hd (k H locs ls hW hL ⟨fqc trivial (fq2 hV.1), hV.2⟩)
theorem sn_lcmp (hx : p.tables.exec = Jvm.exec) (hb : c.code = cc) {x y : Int64} (hd : decode cc pc = .ok (.lcmp, 1)) (k : GL p l e R s m args below meth c D dA md A nL cells slots Q ad (pc + 1) L (.int (lg_cmp x y) :: r) σ) : GL p l e R s m args below meth c D dA md A nL cells slots Q ad pc L (.long y :: .long x :: r) σ :=
  fun H locs ls hW hL hV => W.lcmp hx hb hd (k H locs ls hW hL ⟨fqc trivial (fq2 hV.1), hV.2⟩)
theorem sn_dup (hx : p.tables.exec = Jvm.exec) (hb : c.code = cc) {v : Value} (hd : decode cc pc = .ok (.dup, 1)) (h1 : v.category = 1) (k : GL p l e R s m args below meth c D dA md A nL cells slots Q ad (pc + 1) L (v :: v :: r) σ) : GL p l e R s m args below meth c D dA md A nL cells slots Q ad pc L (v :: r) σ :=
  fun H locs ls hW hL hV => lv_dup hx hb hd ((mv_cat ad v).trans h1) (k H locs ls hW hL ⟨fqc (hV.1 _ List.mem_cons_self) hV.1, hV.2⟩)
theorem sn_pop (hx : p.tables.exec = Jvm.exec) (hb : c.code = cc) {v : Value} (hd : decode cc pc = .ok (.pop, 1)) (h1 : v.category = 1) (k : GL p l e R s m args below meth c D dA md A nL cells slots Q ad (pc + 1) L (r) σ) : GL p l e R s m args below meth c D dA md A nL cells slots Q ad pc L (v :: r) σ :=
  fun H locs ls hW hL hV => lv_pop hx hb hd ((mv_cat ad v).trans h1) (k H locs ls hW hL ⟨fq1 hV.1, hV.2⟩)
theorem sn_dup_x1 (hx : p.tables.exec = Jvm.exec) (hb : c.code = cc) {v w : Value} (hd : decode cc pc = .ok (.dup_x1, 1)) (h1 : v.category = 1) (h2 : w.category = 1) (k : GL p l e R s m args below meth c D dA md A nL cells slots Q ad (pc + 1) L (v :: w :: v :: r) σ) : GL p l e R s m args below meth c D dA md A nL cells slots Q ad pc L (v :: w :: r) σ :=
  fun H locs ls hW hL hV => lv_dup_x1 hx hb hd ((mv_cat ad v).trans h1) ((mv_cat ad w).trans h2) (k H locs ls hW hL ⟨fqc (hV.1 _ List.mem_cons_self) (fqc (hV.1 _ (List.mem_cons_of_mem _ List.mem_cons_self)) (fqc (hV.1 _ List.mem_cons_self) (fq2 hV.1))), hV.2⟩)
theorem sn_dup2 (hx : p.tables.exec = Jvm.exec) (hb : c.code = cc) {v w : Value} (hd : decode cc pc = .ok (.dup2, 1)) (h1 : v.category = 1) (h2 : w.category = 1) (k : GL p l e R s m args below meth c D dA md A nL cells slots Q ad (pc + 1) L (v :: w :: v :: w :: r) σ) : GL p l e R s m args below meth c D dA md A nL cells slots Q ad pc L (v :: w :: r) σ :=
  fun H locs ls hW hL hV => lv_dup2_11 hx hb hd ((mv_cat ad v).trans h1) ((mv_cat ad w).trans h2) (k H locs ls hW hL ⟨fqc (hV.1 _ List.mem_cons_self) (fqc (hV.1 _ (List.mem_cons_of_mem _ List.mem_cons_self)) hV.1), hV.2⟩)
theorem tg_ok {pc : Nat} {off : Int} (h : 0 ≤ (pc : Int) + off) : (pc : Int) + off = ((am_tg pc off : Nat) : Int) := by unfold am_tg; omega
theorem sn_if_eq (hx : p.tables.exec = Jvm.exec) (hb : c.code = cc) {x : Int32} {off : Int} (hd : decode cc pc = .ok (.ifCond .eq off, 3)) (ho : 0 ≤ (pc : Int) + off) (k : GL p l e R s m args below meth c D dA md A nL cells slots Q ad (am_cnd .eq x 0 (am_tg pc off) (pc + 3)) L (r) σ) : GL p l e R s m args below meth c D dA md A nL cells slots Q ad pc L (.int x :: r) σ := by
  intro H locs ls hW hL hV
  refine lv_if_eq hx hb hd (tg_ok ho) (fun h => ?_) (fun h => ?_)
  · have k1 := k H locs ls hW hL ⟨fq1 hV.1, hV.2⟩
    rw [show am_cnd .eq x 0 (am_tg pc off) (pc + 3) = am_tg pc off from if_pos h] at k1
    exact k1
  · have k1 := k H locs ls hW hL ⟨fq1 hV.1, hV.2⟩
    rw [show am_cnd .eq x 0 (am_tg pc off) (pc + 3) = pc + 3 from if_neg h] at k1
    exact k1
theorem sn_icmp_eq (hx : p.tables.exec = Jvm.exec) (hb : c.code = cc) {x y : Int32} {off : Int} (hd : decode cc pc = .ok (.if_icmp .eq off, 3)) (ho : 0 ≤ (pc : Int) + off) (k : GL p l e R s m args below meth c D dA md A nL cells slots Q ad (am_cnd .eq x y (am_tg pc off) (pc + 3)) L (r) σ) : GL p l e R s m args below meth c D dA md A nL cells slots Q ad pc L (.int y :: .int x :: r) σ := by
  intro H locs ls hW hL hV
  refine lv_icmp_eq hx hb hd (tg_ok ho) (fun h => ?_) (fun h => ?_)
  · have k1 := k H locs ls hW hL ⟨fq2 hV.1, hV.2⟩
    rw [show am_cnd .eq x y (am_tg pc off) (pc + 3) = am_tg pc off from if_pos h] at k1
    exact k1
  · have k1 := k H locs ls hW hL ⟨fq2 hV.1, hV.2⟩
    rw [show am_cnd .eq x y (am_tg pc off) (pc + 3) = pc + 3 from if_neg h] at k1
    exact k1
theorem sn_if_ne (hx : p.tables.exec = Jvm.exec) (hb : c.code = cc) {x : Int32} {off : Int} (hd : decode cc pc = .ok (.ifCond .ne off, 3)) (ho : 0 ≤ (pc : Int) + off) (k : GL p l e R s m args below meth c D dA md A nL cells slots Q ad (am_cnd .ne x 0 (am_tg pc off) (pc + 3)) L (r) σ) : GL p l e R s m args below meth c D dA md A nL cells slots Q ad pc L (.int x :: r) σ := by
  intro H locs ls hW hL hV
  refine lv_if_ne hx hb hd (tg_ok ho) (fun h => ?_) (fun h => ?_)
  · have k1 := k H locs ls hW hL ⟨fq1 hV.1, hV.2⟩
    rw [show am_cnd .ne x 0 (am_tg pc off) (pc + 3) = am_tg pc off from if_pos h] at k1
    exact k1
  · have k1 := k H locs ls hW hL ⟨fq1 hV.1, hV.2⟩
    rw [show am_cnd .ne x 0 (am_tg pc off) (pc + 3) = pc + 3 from if_neg (fun q => q h)] at k1
    exact k1
theorem sn_icmp_ne (hx : p.tables.exec = Jvm.exec) (hb : c.code = cc) {x y : Int32} {off : Int} (hd : decode cc pc = .ok (.if_icmp .ne off, 3)) (ho : 0 ≤ (pc : Int) + off) (k : GL p l e R s m args below meth c D dA md A nL cells slots Q ad (am_cnd .ne x y (am_tg pc off) (pc + 3)) L (r) σ) : GL p l e R s m args below meth c D dA md A nL cells slots Q ad pc L (.int y :: .int x :: r) σ := by
  intro H locs ls hW hL hV
  refine lv_icmp_ne hx hb hd (tg_ok ho) (fun h => ?_) (fun h => ?_)
  · have k1 := k H locs ls hW hL ⟨fq2 hV.1, hV.2⟩
    rw [show am_cnd .ne x y (am_tg pc off) (pc + 3) = am_tg pc off from if_pos h] at k1
    exact k1
  · have k1 := k H locs ls hW hL ⟨fq2 hV.1, hV.2⟩
    rw [show am_cnd .ne x y (am_tg pc off) (pc + 3) = pc + 3 from if_neg (fun q => q h)] at k1
    exact k1
theorem sn_if_lt (hx : p.tables.exec = Jvm.exec) (hb : c.code = cc) {x : Int32} {off : Int} (hd : decode cc pc = .ok (.ifCond .lt off, 3)) (ho : 0 ≤ (pc : Int) + off) (k : GL p l e R s m args below meth c D dA md A nL cells slots Q ad (am_cnd .lt x 0 (am_tg pc off) (pc + 3)) L (r) σ) : GL p l e R s m args below meth c D dA md A nL cells slots Q ad pc L (.int x :: r) σ := by
  intro H locs ls hW hL hV
  refine lv_if_lt hx hb hd (tg_ok ho) (fun h => ?_) (fun h => ?_)
  · have k1 := k H locs ls hW hL ⟨fq1 hV.1, hV.2⟩
    rw [show am_cnd .lt x 0 (am_tg pc off) (pc + 3) = am_tg pc off from if_pos h] at k1
    exact k1
  · have k1 := k H locs ls hW hL ⟨fq1 hV.1, hV.2⟩
    rw [show am_cnd .lt x 0 (am_tg pc off) (pc + 3) = pc + 3 from if_neg h] at k1
    exact k1
theorem sn_icmp_lt (hx : p.tables.exec = Jvm.exec) (hb : c.code = cc) {x y : Int32} {off : Int} (hd : decode cc pc = .ok (.if_icmp .lt off, 3)) (ho : 0 ≤ (pc : Int) + off) (k : GL p l e R s m args below meth c D dA md A nL cells slots Q ad (am_cnd .lt x y (am_tg pc off) (pc + 3)) L (r) σ) : GL p l e R s m args below meth c D dA md A nL cells slots Q ad pc L (.int y :: .int x :: r) σ := by
  intro H locs ls hW hL hV
  refine lv_icmp_lt hx hb hd (tg_ok ho) (fun h => ?_) (fun h => ?_)
  · have k1 := k H locs ls hW hL ⟨fq2 hV.1, hV.2⟩
    rw [show am_cnd .lt x y (am_tg pc off) (pc + 3) = am_tg pc off from if_pos h] at k1
    exact k1
  · have k1 := k H locs ls hW hL ⟨fq2 hV.1, hV.2⟩
    rw [show am_cnd .lt x y (am_tg pc off) (pc + 3) = pc + 3 from if_neg h] at k1
    exact k1
theorem sn_if_ge (hx : p.tables.exec = Jvm.exec) (hb : c.code = cc) {x : Int32} {off : Int} (hd : decode cc pc = .ok (.ifCond .ge off, 3)) (ho : 0 ≤ (pc : Int) + off) (k : GL p l e R s m args below meth c D dA md A nL cells slots Q ad (am_cnd .ge x 0 (am_tg pc off) (pc + 3)) L (r) σ) : GL p l e R s m args below meth c D dA md A nL cells slots Q ad pc L (.int x :: r) σ := by
  intro H locs ls hW hL hV
  refine lv_if_ge hx hb hd (tg_ok ho) (fun h => ?_) (fun h => ?_)
  · have k1 := k H locs ls hW hL ⟨fq1 hV.1, hV.2⟩
    rw [show am_cnd .ge x 0 (am_tg pc off) (pc + 3) = am_tg pc off from if_pos h] at k1
    exact k1
  · have k1 := k H locs ls hW hL ⟨fq1 hV.1, hV.2⟩
    rw [show am_cnd .ge x 0 (am_tg pc off) (pc + 3) = pc + 3 from if_neg h] at k1
    exact k1
theorem sn_icmp_ge (hx : p.tables.exec = Jvm.exec) (hb : c.code = cc) {x y : Int32} {off : Int} (hd : decode cc pc = .ok (.if_icmp .ge off, 3)) (ho : 0 ≤ (pc : Int) + off) (k : GL p l e R s m args below meth c D dA md A nL cells slots Q ad (am_cnd .ge x y (am_tg pc off) (pc + 3)) L (r) σ) : GL p l e R s m args below meth c D dA md A nL cells slots Q ad pc L (.int y :: .int x :: r) σ := by
  intro H locs ls hW hL hV
  refine lv_icmp_ge hx hb hd (tg_ok ho) (fun h => ?_) (fun h => ?_)
  · have k1 := k H locs ls hW hL ⟨fq2 hV.1, hV.2⟩
    rw [show am_cnd .ge x y (am_tg pc off) (pc + 3) = am_tg pc off from if_pos h] at k1
    exact k1
  · have k1 := k H locs ls hW hL ⟨fq2 hV.1, hV.2⟩
    rw [show am_cnd .ge x y (am_tg pc off) (pc + 3) = pc + 3 from if_neg h] at k1
    exact k1
theorem sn_if_gt (hx : p.tables.exec = Jvm.exec) (hb : c.code = cc) {x : Int32} {off : Int} (hd : decode cc pc = .ok (.ifCond .gt off, 3)) (ho : 0 ≤ (pc : Int) + off) (k : GL p l e R s m args below meth c D dA md A nL cells slots Q ad (am_cnd .gt x 0 (am_tg pc off) (pc + 3)) L (r) σ) : GL p l e R s m args below meth c D dA md A nL cells slots Q ad pc L (.int x :: r) σ := by
  intro H locs ls hW hL hV
  refine lv_if_gt hx hb hd (tg_ok ho) (fun h => ?_) (fun h => ?_)
  · have k1 := k H locs ls hW hL ⟨fq1 hV.1, hV.2⟩
    rw [show am_cnd .gt x 0 (am_tg pc off) (pc + 3) = am_tg pc off from if_pos h] at k1
    exact k1
  · have k1 := k H locs ls hW hL ⟨fq1 hV.1, hV.2⟩
    rw [show am_cnd .gt x 0 (am_tg pc off) (pc + 3) = pc + 3 from if_neg h] at k1
    exact k1
theorem sn_icmp_gt (hx : p.tables.exec = Jvm.exec) (hb : c.code = cc) {x y : Int32} {off : Int} (hd : decode cc pc = .ok (.if_icmp .gt off, 3)) (ho : 0 ≤ (pc : Int) + off) (k : GL p l e R s m args below meth c D dA md A nL cells slots Q ad (am_cnd .gt x y (am_tg pc off) (pc + 3)) L (r) σ) : GL p l e R s m args below meth c D dA md A nL cells slots Q ad pc L (.int y :: .int x :: r) σ := by
  intro H locs ls hW hL hV
  refine lv_icmp_gt hx hb hd (tg_ok ho) (fun h => ?_) (fun h => ?_)
  · have k1 := k H locs ls hW hL ⟨fq2 hV.1, hV.2⟩
    rw [show am_cnd .gt x y (am_tg pc off) (pc + 3) = am_tg pc off from if_pos h] at k1
    exact k1
  · have k1 := k H locs ls hW hL ⟨fq2 hV.1, hV.2⟩
    rw [show am_cnd .gt x y (am_tg pc off) (pc + 3) = pc + 3 from if_neg h] at k1
    exact k1
theorem sn_if_le (hx : p.tables.exec = Jvm.exec) (hb : c.code = cc) {x : Int32} {off : Int} (hd : decode cc pc = .ok (.ifCond .le off, 3)) (ho : 0 ≤ (pc : Int) + off) (k : GL p l e R s m args below meth c D dA md A nL cells slots Q ad (am_cnd .le x 0 (am_tg pc off) (pc + 3)) L (r) σ) : GL p l e R s m args below meth c D dA md A nL cells slots Q ad pc L (.int x :: r) σ := by
  intro H locs ls hW hL hV
  refine lv_if_le hx hb hd (tg_ok ho) (fun h => ?_) (fun h => ?_)
  · have k1 := k H locs ls hW hL ⟨fq1 hV.1, hV.2⟩
    rw [show am_cnd .le x 0 (am_tg pc off) (pc + 3) = am_tg pc off from if_pos h] at k1
    exact k1
  · have k1 := k H locs ls hW hL ⟨fq1 hV.1, hV.2⟩
    rw [show am_cnd .le x 0 (am_tg pc off) (pc + 3) = pc + 3 from if_neg h] at k1
    exact k1
theorem sn_icmp_le (hx : p.tables.exec = Jvm.exec) (hb : c.code = cc) {x y : Int32} {off : Int} (hd : decode cc pc = .ok (.if_icmp .le off, 3)) (ho : 0 ≤ (pc : Int) + off) (k : GL p l e R s m args below meth c D dA md A nL cells slots Q ad (am_cnd .le x y (am_tg pc off) (pc + 3)) L (r) σ) : GL p l e R s m args below meth c D dA md A nL cells slots Q ad pc L (.int y :: .int x :: r) σ := by
  intro H locs ls hW hL hV
  refine lv_icmp_le hx hb hd (tg_ok ho) (fun h => ?_) (fun h => ?_)
  · have k1 := k H locs ls hW hL ⟨fq2 hV.1, hV.2⟩
    rw [show am_cnd .le x y (am_tg pc off) (pc + 3) = am_tg pc off from if_pos h] at k1
    exact k1
  · have k1 := k H locs ls hW hL ⟨fq2 hV.1, hV.2⟩
    rw [show am_cnd .le x y (am_tg pc off) (pc + 3) = pc + 3 from if_neg h] at k1
    exact k1
theorem sn_goto (hx : p.tables.exec = Jvm.exec) (hb : c.code = cc) {off : Int} (hd : decode cc pc = .ok (.goto off, 3)) (ho : 0 ≤ (pc : Int) + off) (k : GL p l e R s m args below meth c D dA md A nL cells slots Q ad (am_tg pc off) L (r) σ) : GL p l e R s m args below meth c D dA md A nL cells slots Q ad pc L (r) σ :=
  fun H locs ls hW hL hV => lv_goto hx hb hd (tg_ok ho) (k H locs ls hW hL hV)
theorem sn_ifnull (hx : p.tables.exec = Jvm.exec) (hb : c.code = cc) {off : Int} {a : Nat} (hd : decode cc pc = .ok (.ifnull off, 3)) (k : GL p l e R s m args below meth c D dA md A nL cells slots Q ad (pc + 3) L (r) σ) : GL p l e R s m args below meth c D dA md A nL cells slots Q ad pc L (.ref a :: r) σ :=
  fun H locs ls hW hL hV => lv_ifnull hx hb hd (k H locs ls hW hL ⟨fq1 hV.1, hV.2⟩)
theorem sn_ifnullN (hx : p.tables.exec = Jvm.exec) (hb : c.code = cc) {off : Int} (hd : decode cc pc = .ok (.ifnull off, 3)) (ho : 0 ≤ (pc : Int) + off) (k : GL p l e R s m args below meth c D dA md A nL cells slots Q ad (am_tg pc off) L (r) σ) : GL p l e R s m args below meth c D dA md A nL cells slots Q ad pc L (.null :: r) σ :=
  fun H locs ls hW hL hV => lv_ifnullN hx hb hd (tg_ok ho) (k H locs ls hW hL ⟨fq1 hV.1, hV.2⟩)
theorem sn_ifnonnull (hx : p.tables.exec = Jvm.exec) (hb : c.code = cc) {off : Int} {a : Nat} (hd : decode cc pc = .ok (.ifnonnull off, 3)) (ho : 0 ≤ (pc : Int) + off) (k : GL p l e R s m args below meth c D dA md A nL cells slots Q ad (am_tg pc off) L (r) σ) : GL p l e R s m args below meth c D dA md A nL cells slots Q ad pc L (.ref a :: r) σ :=
  fun H locs ls hW hL hV => lv_ifnonnull hx hb hd (tg_ok ho) (k H locs ls hW hL ⟨fq1 hV.1, hV.2⟩)
theorem sn_ifnonnullN (hx : p.tables.exec = Jvm.exec) (hb : c.code = cc) {off : Int} (hd : decode cc pc = .ok (.ifnonnull off, 3)) (k : GL p l e R s m args below meth c D dA md A nL cells slots Q ad (pc + 3) L (r) σ) : GL p l e R s m args below meth c D dA md A nL cells slots Q ad pc L (.null :: r) σ :=
  fun H locs ls hW hL hV => lv_ifnonnullN hx hb hd (k H locs ls hW hL ⟨fq1 hV.1, hV.2⟩)
theorem sn_tsOut (hx : p.tables.exec = Jvm.exec) (hb : c.code = cc) {dflt lo hi : Int} {offs : Array Int} {len : Nat} {x : Int32} (hd : decode cc pc = .ok (.tableswitch dflt lo hi offs, len)) (h1 : x.toInt < lo ∨ hi < x.toInt) (ho : 0 ≤ (pc : Int) + dflt) (k : GL p l e R s m args below meth c D dA md A nL cells slots Q ad (am_tg pc dflt) L (r) σ) : GL p l e R s m args below meth c D dA md A nL cells slots Q ad pc L (.int x :: r) σ :=
  fun H locs ls hW hL hV => lv_tableOut hx hb hd h1 (tg_ok ho) (k H locs ls hW hL ⟨fq1 hV.1, hV.2⟩)
theorem sn_tsIn (hx : p.tables.exec = Jvm.exec) (hb : c.code = cc) {dflt lo hi off : Int} {offs : Array Int} {len : Nat} {x : Int32} (hd : decode cc pc = .ok (.tableswitch dflt lo hi offs, len)) (h1 : ¬ (x.toInt < lo ∨ hi < x.toInt)) (h2 : offs[(x.toInt - lo).toNat]? = some off) (ho : 0 ≤ (pc : Int) + off) (k : GL p l e R s m args below meth c D dA md A nL cells slots Q ad (am_tg pc off) L (r) σ) : GL p l e R s m args below meth c D dA md A nL cells slots Q ad pc L (.int x :: r) σ :=
  fun H locs ls hW hL hV => lv_tableIn hx hb hd (fun q => h1 (Or.inl q)) (fun q => h1 (Or.inr q)) h2 (tg_ok ho) (k H locs ls hW hL ⟨fq1 hV.1, hV.2⟩)
end SND
