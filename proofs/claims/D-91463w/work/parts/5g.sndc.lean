/-! SOUNDNESS 13: the rest of the world; the machine's own throws -/
set_option maxRecDepth 100000
def strT (j : Nat) : List Nat := (am_stl.getD j (0, [])).2
def strR (ad : Nat → Nat) (U : State) : Prop := ∀ (j : Nat) (x : String × Nat × String), SL[j]? = some x → vk_R x.1 x.2.1 x.2.2 (ad (1000000 + j)) U
def STR1 (t v : Nat) (tx : List Nat) (A : Nat → Prop) (U : State) (H : Heap) : Prop := va_O "java/lang/String" t A U H ∧ va_OF "java/lang/String" "coder" "B" (.int 0) t A U H ∧ va_OF "java/lang/String" "value" "[B" (.ref v) t A U H ∧ va_T .byte v tx.length (fun k => .int (Int32.ofNat (tx.getD k 0))) A U H
def STRS (ad : Nat → Nat) (A : Nat → Prop) (U : State) (H : Heap) : Prop := ∀ j, j < am_stl.length → STR1 (ad (1000000 + j)) (ad (2000000 + j)) (strT j) A U H
def Z2 (C n d : String) (a : Nat) (A : Nat → Prop) (U : State) (H : Heap) : Prop := va_Z C n d .null A U H ∨ va_Z C n d (.ref a) A U H
theorem Z2.up {C n d : String} {a : Nat} {A : Nat → Prop} {u U : State} {H H1 : Heap} (hvm : u.vm.Alike U.vm) (hq : ∀ a : Nat, a < H.size → ¬ A a → H1[a]? = H[a]?) (h : Z2 C n d a A u H) : Z2 C n d a A U H1 := h.imp (fun h => (va_Z.moved hvm h).kept hq) (fun h => (va_Z.moved hvm h).kept hq)
def STA (ad : Nat → Nat) (A : Nat → Prop) (U : State) (H : Heap) : Prop := vx_Zq Bundle.tN "UNASSIGNED_STACK" Bundle.steD A U H ∧ vx_Zq Bundle.tN "SUPPRESSED_SENTINEL" Bundle.listD A U H ∧ va_Z "java/lang/String" "COMPACT_STRINGS" "Z" (.int 1) A U H ∧ Z2 "jdk/internal/util/Preconditions" "SIOOBE_FORMATTER" "Ljava/util/function/BiFunction;" (ad 3000000) A U H ∧ Z2 Bundle.tN "UNASSIGNED_STACK" Bundle.steD (ad 3000002) A U H ∧ Z2 Bundle.tN "SUPPRESSED_SENTINEL" Bundle.listD (ad 3000003) A U H
def NCL : List (String × String) := [("OldWeather$Gauge", "OldWeather$Word"), ("OldWeather$Proxy", "OldWeather$Word"), ("OldWeather$Copied", "OldWeather$Word"), ("OldWeather$Word", "OldWeather$Gauge"), ("OldWeather$Log", "OldWeather$Gauge"), ("OldWeather$Proxy", "OldWeather$Gauge"), ("OldWeather$Copied", "OldWeather$Gauge"), ("OldWeather$Word", "OldWeather$Log"), ("OldWeather$Gauge", "OldWeather$Log"), ("OldWeather$Proxy", "OldWeather$Log"), ("OldWeather$Copied", "OldWeather$Log"), ("OldWeather$Word", "OldWeather$Proxy"), ("OldWeather$Gauge", "OldWeather$Proxy"), ("OldWeather$Log", "OldWeather$Proxy"), ("OldWeather$Copied", "OldWeather$Proxy"), ("OldWeather$Word", "OldWeather$Copied"), ("OldWeather$Gauge", "OldWeather$Copied"), ("OldWeather$Log", "OldWeather$Copied"), ("OldWeather$Proxy", "OldWeather$Copied")]
/-- the words on default methods: who, of whose table -/
def LDL : List (String × String) := [("OldWeather$Word", "OldWeather$Word"), ("OldWeather$Word", "OldWeather$Reading"), ("OldWeather$Gauge", "OldWeather$Reading"), ("OldWeather$Proxy", "OldWeather$Reading"), ("OldWeather$Copied", "OldWeather$Reading")]
def hdN (C : String) : MethodName := ⟨C, "hasDegrees", "()Z"⟩
def LDH (U : State) : Prop := (∀ w ∈ defaultWords_1, w.before #[] U = true) ∧ ∀ q ∈ LDL, (Cond.landsInDefault q.1 (hdN q.2) (hdN "OldWeather$Bounds")).before #[] U = true
def taX : MethodName := ⟨"java/util/Collection", "toArray", "()[Ljava/lang/Object;"⟩
def taY : MethodName := ⟨"java/util/ArrayList", "toArray", "()[Ljava/lang/Object;"⟩
def TBX (ad : Nat → Nat) (U : State) : Prop := va_Mi "[Ljava/lang/Object;" (ad 3000001) U ∧ (∀ q ∈ NCL, va_Nc q.1 q.2 U) ∧ modulesRight_1 U = true ∧ LDH U ∧ va_Fw "java/util/ArrayList" taX taY U
def SXc (z0 : Nat) : (Nat → Nat) → State → Heap → Prop := fun ad U H => strR ad U ∧ STRS ad (AA z0) U H ∧ STA ad (AA z0) U H ∧ TBX ad U
theorem STA.up {ad : Nat → Nat} {A : Nat → Prop} {u U : State} {H H1 : Heap} (hvm : u.vm.Alike U.vm) (hq : ∀ a : Nat, a < H.size → ¬ A a → H1[a]? = H[a]?) (h : STA ad A u H) : STA ad A U H1 := ⟨(vx_Zq.moved hvm h.1).kept hq, (vx_Zq.moved hvm h.2.1).kept hq, (va_Z.moved hvm h.2.2.1).kept hq, h.2.2.2.1.up hvm hq, h.2.2.2.2.1.up hvm hq, h.2.2.2.2.2.up hvm hq⟩
theorem STR1.up {t v : Nat} {tx : List Nat} {A : Nat → Prop} {u U : State} {H H1 : Heap} (hvm : u.vm.Alike U.vm) (hq : ∀ a : Nat, a < H.size → ¬ A a → H1[a]? = H[a]?) (h : STR1 t v tx A u H) : STR1 t v tx A U H1 := ⟨(va_O.moved hvm h.1).kept hq, (va_OF.moved hvm h.2.1).kept hq, (va_OF.moved hvm h.2.2.1).kept hq, (va_T.moved hvm h.2.2.2).kept hq⟩
theorem STRS.up {ad : Nat → Nat} {A : Nat → Prop} {u U : State} {H H1 : Heap} (hvm : u.vm.Alike U.vm) (hq : ∀ a : Nat, a < H.size → ¬ A a → H1[a]? = H[a]?) (h : STRS ad A u H) : STRS ad A U H1 := fun j hj => STR1.up hvm hq (h j hj)
theorem dw_good : ∀ w ∈ defaultWords_1, goodWord w = true := by decide +kernel
theorem LDH.warm {u U : State} (hW : u.WarmedH U.vm) (h : LDH u) : LDH U := by
  refine ⟨fun w hw => word_at hW (good_of_word (dw_good w hw)) (h.1 w hw), fun q hq => ?_⟩
  have h1 : (Cond.landsInDefault q.1 (hdN q.2) (hdN "OldWeather$Bounds")).before #[] (u.setVm U.vm) = true := (Cond.landsInDefault_setVm hW.alike (State.methodFound?_setVm hW.alike _ _ _)).trans (h.2 q hq)
  simp only [Cond.before, Cond.holds, Cond.value] at h1 ⊢
  exact h1
theorem TBX.warm {ad : Nat → Nat} {u U : State} (hW : u.WarmedH U.vm) (h : TBX ad u) : TBX ad U := by
  obtain ⟨h1, h2, h3, h4, h5⟩ := h
  refine ⟨va_Mi.moved hW.alike h1, fun q hq => va_Nc.moved hW.alike (h2 q hq), ?_, h4.warm hW, va_Fw.moved ⟨by decide, by decide⟩ hW.alike h5⟩
  have e : U.vm.modules = u.vm.modules := by rw [hW.1]
  unfold modulesRight_1 at h3 ⊢
  rw [e]
  exact h3
theorem WarmedH_same {u U : State} (h : u.vm = U.vm) : u.WarmedH U.vm := by
  rw [← h]
  exact State.WarmedH.refl u
theorem SXc_SXP (z0 : Nat) : SXP z0 (SXc z0) := by
  refine ⟨fun ad s U hW hq h => ?_, fun ad u U hv hh h => ?_, fun ad ad1 U ha h => ?_⟩
  · obtain ⟨h1, h2, h3, h4⟩ := h
    exact ⟨fun j x hx => vk_R.warm hW (h1 j x hx), STRS.up hW.alike hq h2, STA.up hW.alike hq h3, TBX.warm hW h4⟩
  · obtain ⟨h1, h2, h3, h4⟩ := h
    have hA : u.vm.Alike U.vm := (WarmedH_same hv).alike
    rw [← hh]
    exact ⟨fun j x hx => vk_R.same hv.symm (h1 j x hx), STRS.up hA (fun _ _ _ => rfl) h2, STA.up hA (fun _ _ _ => rfl) h3, TBX.warm (WarmedH_same hv) h4⟩
  · obtain ⟨h1, h2, h3, h4⟩ := h
    refine ⟨fun j x hx => ?_, fun j hj => ?_, ?_, ?_⟩
    · rw [ha _ (Nat.le_add_right _ _)]
      exact h1 j x hx
    · rw [ha _ (Nat.le_add_right _ _), ha (2000000 + j) (by omega)]
      exact h2 j hj
    · unfold STA
      rw [ha 3000000 (by omega), ha 3000002 (by omega), ha 3000003 (by omega)]
      exact h3
    · unfold TBX
      rw [ha 3000001 (by omega)]
      exact h4
/-- words that a method's start knows -/
theorem atN {args : Array Value} {s : State} (hN : NWs s) {w : Cond} (hw : w ∈ lw_tbl) (hn : nwWord w = true) : w.before args s = true := by
  have h3 := hN _ hw hn
  cases w <;> first | cases hn | skip
  case castable => exact va_Nw.use rfl h3
  case declares => exact va_Nw.use rfl h3
  case fieldLinkNest => exact va_Nw.use rfl h3
  case methodLinkNest => exact va_Nw.use rfl h3
  case arrayOver t =>
    unfold va_Nw at h3
    simp only [Cond.before, Cond.holds, Cond.value] at h3 ⊢
    exact h3
theorem atW {args : Array Value} {s : State} (ht : ∀ w ∈ lw_all, w.before args s = true) (hN : NWs s) {w : Cond} (h : w ∈ lw_all ∨ (w ∈ lw_tbl ∧ nwWord w = true)) : w.before args s = true := h.elim (fun h => ht _ h) (fun h => atN hN h.1 h.2)
theorem cl_bmp (σ : Sg) : cl (bmp σ) = cl σ + 3 := by
  show gz σ + (gs σ + 3000) / 1000 = gz σ + gs σ / 1000 + 3
  omega
theorem gs_bmp (σ : Sg) : gs (bmp σ) = gs σ + 3000 := rfl
