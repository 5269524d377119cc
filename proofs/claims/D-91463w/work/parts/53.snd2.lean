/-! SOUNDNESS 2: instructions that read or write the heap -/
set_option maxRecDepth 100000
theorem e_1 {ad dA : Nat → Nat} {md : Bool} {σ : Sg} {a : Nat} (h : (kdT md σ a).1 = 1) : e_E ad dA md σ a = .inl (dA 1, (kdT md σ a).2, .inl (gi σ a)) := by
  unfold e_E; rw [if_pos h]
theorem e_2 {ad dA : Nat → Nat} {md : Bool} {σ : Sg} {a : Nat} (h : (kdT md σ a).1 = 2) : e_E ad dA md σ a = .inl (dA 2, (kdT md σ a).2, .inr (.inl (gl σ a))) := by
  unfold e_E; rw [if_neg (by omega), if_pos h]
theorem e_3 {ad dA : Nat → Nat} {md : Bool} {σ : Sg} {a : Nat} (h : (kdT md σ a).1 = 3) : e_E ad dA md σ a = .inl (dA 3, (kdT md σ a).2, .inl (gi σ a)) := by
  unfold e_E; rw [if_neg (by omega), if_neg (by omega), if_pos h]
theorem e_4 {ad dA : Nat → Nat} {md : Bool} {σ : Sg} {a : Nat} (h : (kdT md σ a).1 = 4) : e_E ad dA md σ a = .inl (dA 4, (kdT md σ a).2, .inl (gi σ a)) := by
  unfold e_E; rw [if_neg (by omega), if_neg (by omega), if_neg (by omega), if_pos h]
theorem e_56 {ad dA : Nat → Nat} {md : Bool} {σ : Sg} {a : Nat} (h : (kdT md σ a).1 = 5 ∨ (kdT md σ a).1 = 6) : e_E ad dA md σ a = .inl (dA (kdT md σ a).1, (kdT md σ a).2, .inr (.inr (.inr (.inr (fun i => (gr σ a i).map ad))))) := by
  unfold e_E; rw [if_neg (by omega), if_neg (by omega), if_neg (by omega), if_neg (by omega), if_pos (by omega)]
theorem e_o {ad dA : Nat → Nat} {md : Bool} {σ : Sg} {a : Nat} (h : 10 ≤ (kdT md σ a).1) : e_E ad dA md σ a = .inr ((kdT md σ a).1 - 10, (e_f (kdT md σ a).1).mapIdx (fun k t => e_v ad md σ a k t)) := by
  unfold e_E; rw [if_neg (by omega), if_neg (by omega), if_neg (by omega), if_neg (by omega), if_neg (by omega)]
theorem e_cg {ad dA : Nat → Nat} {md : Bool} {σ τ : Sg} {a : Nat} (h1 : kdT md τ a = kdT md σ a) (h2 : gi τ a = gi σ a) (h3 : gl τ a = gl σ a) (h4 : gr τ a = gr σ a) : e_E ad dA md τ a = e_E ad dA md σ a := by
  unfold e_E e_v grT
  rw [h1, h2, h3, h4]
theorem e_ad {ad ad1 dA : Nat → Nat} {md : Bool} {σ : Sg} {a : Nat} (h4 : ∀ k b, gr σ a k = some b → ad1 b = ad b) (h5 : ∀ k b, grT md σ a k = some b → ad1 b = ad b) : e_E ad1 dA md σ a = e_E ad dA md σ a := by
  have e1 : (fun i => (gr σ a i).map ad1) = (fun i => (gr σ a i).map ad) := by
    funext i
    cases h : gr σ a i with
    | none => rfl
    | some b => exact congrArg some (h4 i b h)
  have e2 : (fun k t => e_v ad1 md σ a k t) = (fun k t => e_v ad md σ a k t) := by
    funext k t
    unfold e_v
    have : (grT md σ a k).map ad1 = (grT md σ a k).map ad := by
      cases h : grT md σ a k with
      | none => rfl
      | some b => exact congrArg some (h5 k b h)
    rw [this]
  unfold e_E
  rw [e1, e2]
theorem e_vm (ad : Nat → Nat) (md : Bool) (σ : Sg) (a k ty : Nat) : e_v ad md σ a k ty = mv ad (am_rf md σ a k ty) := by
  match ty with
  | 0 => rfl
  | 1 => rfl
  | 2 => exact (mv_rf ad _).symm
  | n + 3 => rfl
theorem gi_wi {σ : Sg} {a j : Nat} {x : Int32} : gi (wi σ a j x) a = upd (gi σ a) j x := by
  funext k
  show (if a = a ∧ k = j then x else gi σ a k) = if k = j then x else gi σ a k
  by_cases h : k = j
  · rw [if_pos ⟨rfl, h⟩, if_pos h]
  · rw [if_neg (fun q => h q.2), if_neg h]
theorem gi_wi_ne {σ : Sg} {a b j : Nat} {x : Int32} (hb : b ≠ a) : gi (wi σ a j x) b = gi σ b := by
  funext k
  show (if b = a ∧ k = j then x else gi σ b k) = _
  rw [if_neg (fun q => hb q.1)]
theorem gl_wl {σ : Sg} {a j : Nat} {x : Int64} : gl (wl σ a j x) a = vp_updL (gl σ a) j x := by
  funext k
  show (if a = a ∧ k = j then x else gl σ a k) = if k = j then x else gl σ a k
  by_cases h : k = j
  · rw [if_pos ⟨rfl, h⟩, if_pos h]
  · rw [if_neg (fun q => h q.2), if_neg h]
theorem gl_wl_ne {σ : Sg} {a b j : Nat} {x : Int64} (hb : b ≠ a) : gl (wl σ a j x) b = gl σ b := by
  funext k
  show (if b = a ∧ k = j then x else gl σ b k) = _
  rw [if_neg (fun q => hb q.1)]
theorem gr_wr {σ : Sg} {a j : Nat} {x : Option Nat} : gr (wr σ a j x) a = va_up (gr σ a) j x := by
  funext k
  show (if a = a ∧ k = j then x else gr σ a k) = if k = j then x else gr σ a k
  by_cases h : k = j
  · rw [if_pos ⟨rfl, h⟩, if_pos h]
  · rw [if_neg (fun q => h q.2), if_neg h]
theorem gr_wr_ne {σ : Sg} {a b j : Nat} {x : Option Nat} (hb : b ≠ a) : gr (wr σ a j x) b = gr σ b := by
  funext k
  show (if b = a ∧ k = j then x else gr σ b k) = _
  rw [if_neg (fun q => hb q.1)]
theorem ew_i {ad dA : Nat → Nat} {md : Bool} {σ : Sg} {a b j : Nat} {x : Int32} (hb : b ≠ a) : e_E ad dA md (wi σ a j x) b = e_E ad dA md σ b := e_cg rfl (gi_wi_ne hb) rfl rfl
theorem ew_l {ad dA : Nat → Nat} {md : Bool} {σ : Sg} {a b j : Nat} {x : Int64} (hb : b ≠ a) : e_E ad dA md (wl σ a j x) b = e_E ad dA md σ b := e_cg rfl rfl (gl_wl_ne hb) rfl
theorem ew_r {ad dA : Nat → Nat} {md : Bool} {σ : Sg} {a b j : Nat} {x : Option Nat} (hb : b ≠ a) : e_E ad dA md (wr σ a j x) b = e_E ad dA md σ b := e_cg rfl rfl rfl (gr_wr_ne hb)
theorem WFs.lt {md : Bool} {σ : Sg} {a : Nat} (h : WFs md σ) (hk : (kdT md σ a).1 ≠ 0) : a < gz σ := by
  rcases Nat.lt_or_ge a (gz σ) with q | q
  · exact q
  · exact absurd (h.2.2.2.2.2.1 a q) hk
theorem WFs_wr {md : Bool} {σ : Sg} {a j : Nat} {x : Option Nat} (h : WFs md σ) (hx : ∀ b, x = some b → vokN σ b) (hx5 : (kdT md σ a).1 = 5 → ∀ b, x = some b → 10 ≤ (kdT md σ b).1) : WFs md (wr σ a j x) := by
  obtain ⟨h1, h2, h3, h4, h5, h6, h7, h8⟩ := h
  refine ⟨h1, fun b k y hb hy => ?_, fun b k y hb hy => ?_, h4, h5, h6, h7, fun b k y hb hy => ?_⟩
  · have hy : grT md (wr σ a j x) b k = some y := hy
    unfold grT at hy
    split at hy
    · rename_i z hz
      cases hy
      exact h2 b k y hb (by unfold grT; rw [hz])
    · rename_i hz
      by_cases hba : b = a ∧ k = j
      · have : x = some y := by
          have e : gr (wr σ a j x) b k = x := by show (if b = a ∧ k = j then x else _) = _; rw [if_pos hba]
          rw [← e]; exact hy
        exact hx y this
      · have e : gr (wr σ a j x) b k = gr σ b k := by show (if b = a ∧ k = j then x else gr σ b k) = _; rw [if_neg hba]
        exact h2 b k y hb (by unfold grT; rw [hz]; exact e.symm.trans hy)
  · by_cases hba : b = a ∧ k = j
    · have : x = some y := by
        have e : gr (wr σ a j x) b k = x := by show (if b = a ∧ k = j then x else _) = _; rw [if_pos hba]
        rw [← e]; exact hy
      exact hx y this
    · have e : gr (wr σ a j x) b k = gr σ b k := by show (if b = a ∧ k = j then x else gr σ b k) = _; rw [if_neg hba]
      exact h3 b k y hb (e.symm.trans hy)
  · by_cases hba : b = a ∧ k = j
    · have : x = some y := by
        have e : gr (wr σ a j x) b k = x := by show (if b = a ∧ k = j then x else _) = _; rw [if_pos hba]
        rw [← e]; exact hy
      obtain ⟨rfl, -⟩ := hba
      exact hx5 hb y this
    · have e : gr (wr σ a j x) b k = gr σ b k := by show (if b = a ∧ k = j then x else gr σ b k) = _; rw [if_neg hba]
      exact h8 b k y hb (e.symm.trans hy)
theorem WFs_wi {md : Bool} {σ : Sg} {a j : Nat} {x : Int32} (h : WFs md σ) (hx : (kdT md σ a).1 = 3 → x.toInt8.toInt32 = x) : WFs md (wi σ a j x) := by
  obtain ⟨h1, h2, h3, h4, h5, h6, h7, h8⟩ := h
  refine ⟨h1, h2, h3, h4, h5, h6, fun b k hb => ?_, h8⟩
  show ((if b = a ∧ k = j then x else gi σ b k) : Int32).toInt8.toInt32 = (if b = a ∧ k = j then x else gi σ b k)
  by_cases h : b = a ∧ k = j
  · rw [if_pos h]
    obtain ⟨rfl, -⟩ := h
    exact hx hb
  · rw [if_neg h]
    exact h7 b k hb
theorem in_of {i : Int32} {n : Nat} (h : inb i n) : vp_in i n := fun q => q.elim h.1 (fun z => by have := h.2; omega)
theorem vok_of {σ : Sg} {x : Option Nat} (h : ∀ b, x = some b → vokN σ b) : vok σ (va_rf x) := by
  cases x with
  | none => trivial
  | some b => exact h b rfl
section SNH
variable {p : Program} {l : Launch} {e : Env} {R : Room} {s : State} {m : MethodId} {args : Array Value} {below : List Frame} {meth : Method} {c : Code} {cells slots : Nat} {Q : State → Prop} {cc : ByteArray} {D : va_G} {dA : Nat → Nat} {md : Bool} {A : Nat → Prop} {nL : Nat} {ad : Nat → Nat} {pc : Nat} {L : Lo} {r : List Value} {σ : Sg} {a : Nat}
theorem sn_iaload (hx : p.tables.exec = Jvm.exec) (hb : c.code = cc) (hK : va_K D CL (TYS dA) s) {i : Int32} (hd : decode cc pc = .ok (.iaload, 1)) (hk : (kdT md σ a).1 = 1) (hi : inb i (kdT md σ a).2) (k : GL p l e R s m args below meth c D dA md A nL cells slots Q ad (pc + 1) L (.int (gi σ a i.toNatClampNeg) :: r) σ) : GL p l e R s m args below meth c D dA md A nL cells slots Q ad pc L (.int i :: .ref a :: r) σ := by
  intro H locs ls hW hL hV
  have ha := hW.2.2.2.lt (a := a) (by omega)
  exact va_iald hx hb hK hW.1 a 0 ((e_at ha).trans (by rw [e_1 hk])) rfl (in_of hi) hd (k H locs ls hW hL ⟨fqc trivial (fq2 hV.1), hV.2⟩)
theorem sn_laload (hx : p.tables.exec = Jvm.exec) (hb : c.code = cc) (hK : va_K D CL (TYS dA) s) {i : Int32} (hd : decode cc pc = .ok (.laload, 1)) (hk : (kdT md σ a).1 = 2) (hi : inb i (kdT md σ a).2) (k : GL p l e R s m args below meth c D dA md A nL cells slots Q ad (pc + 1) L (.long (gl σ a i.toNatClampNeg) :: r) σ) : GL p l e R s m args below meth c D dA md A nL cells slots Q ad pc L (.int i :: .ref a :: r) σ := by
  intro H locs ls hW hL hV
  have ha := hW.2.2.2.lt (a := a) (by omega)
  exact va_lald hx hb hK hW.1 a 1 ((e_at ha).trans (by rw [e_2 hk])) rfl (in_of hi) hd (k H locs ls hW hL ⟨fqc trivial (fq2 hV.1), hV.2⟩)
theorem sn_baload (hx : p.tables.exec = Jvm.exec) (hb : c.code = cc) (hK : va_K D CL (TYS dA) s) {i : Int32} (hd : decode cc pc = .ok (.baload, 1)) (hk : (kdT md σ a).1 = 3 ∨ (kdT md σ a).1 = 4) (hi : inb i (kdT md σ a).2) (k : GL p l e R s m args below meth c D dA md A nL cells slots Q ad (pc + 1) L (.int (gi σ a i.toNatClampNeg) :: r) σ) : GL p l e R s m args below meth c D dA md A nL cells slots Q ad pc L (.int i :: .ref a :: r) σ := by
  intro H locs ls hW hL hV
  have ha := hW.2.2.2.lt (a := a) (by omega)
  have hk1 := k H locs ls hW hL ⟨fqc trivial (fq2 hV.1), hV.2⟩
  rcases hk with hk | hk
  · exact va_bald hx hb hK hW.1 a 2 ((e_at ha).trans (by rw [e_3 hk])) rfl (in_of hi) hd hk1
  · exact va_zald hx hb hK hW.1 a 3 ((e_at ha).trans (by rw [e_4 hk])) rfl (in_of hi) hd hk1
theorem sn_aaload (hx : p.tables.exec = Jvm.exec) (hb : c.code = cc) (hK : va_K D CL (TYS dA) s) {i : Int32} (hd : decode cc pc = .ok (.aaload, 1)) (hk : (kdT md σ a).1 = 5 ∨ (kdT md σ a).1 = 6) (hi : inb i (kdT md σ a).2) (k : GL p l e R s m args below meth c D dA md A nL cells slots Q ad (pc + 1) L (va_rf (gr σ a i.toNatClampNeg) :: r) σ) : GL p l e R s m args below meth c D dA md A nL cells slots Q ad pc L (.int i :: .ref a :: r) σ := by
  intro H locs ls hW hL hV
  have ha := hW.2.2.2.lt (a := a) (by omega)
  have hk1 := k H locs ls hW hL ⟨fqc (vok_of (fun b hb => hW.2.2.2.2.2.1 a _ b ha hb)) (fq2 hV.1), hV.2⟩
  rw [List.map_cons, mv_rf] at hk1
  rcases hk with hk5 | hk5
  · exact va_aldq hx hb hK hW.1 a 4 ((e_at ha).trans (by rw [e_56 (Or.inl hk5), hk5])) rfl (in_of hi) hd hk1
  · exact va_aldq hx hb hK hW.1 a 5 ((e_at ha).trans (by rw [e_56 (Or.inr hk5), hk5])) rfl (in_of hi) hd hk1
theorem WO.si {s : State} {H H1 : Heap} {locs locs1 : List Loc} {j : Nat} {x : Int32} {e1 : va_E} (hW : WO D dA md A s ad σ H locs) (hx : (kdT md σ a).1 = 3 → x.toInt8.toInt32 = x) (he : e_E ad dA md (wi σ a j x) a = e1) (h1 : va_P D CL ((e_W ad dA md σ).set a (ad a, e1)) H1) (h2 : va_D A ((e_W ad dA md σ).set a (ad a, e1))) (h3 : va_S A s.heap H1 locs1) : WO D dA md A s ad (wi σ a j x) H1 locs1 := by
  subst he
  rw [e_set (σ := σ) (τ := wi σ a j x) rfl (fun b hb => ew_i hb)] at h1 h2
  exact ⟨h1, h2, h3, WFs_wi hW.2.2.2 hx⟩
theorem WO.sl {s : State} {H H1 : Heap} {locs locs1 : List Loc} {j : Nat} {x : Int64} {e1 : va_E} (hW : WO D dA md A s ad σ H locs) (he : e_E ad dA md (wl σ a j x) a = e1) (h1 : va_P D CL ((e_W ad dA md σ).set a (ad a, e1)) H1) (h2 : va_D A ((e_W ad dA md σ).set a (ad a, e1))) (h3 : va_S A s.heap H1 locs1) : WO D dA md A s ad (wl σ a j x) H1 locs1 := by
  subst he
  rw [e_set (σ := σ) (τ := wl σ a j x) rfl (fun b hb => ew_l hb)] at h1 h2
  exact ⟨h1, h2, h3, hW.2.2.2⟩
theorem WO.sr {s : State} {H H1 : Heap} {locs locs1 : List Loc} {j : Nat} {x : Option Nat} {e1 : va_E} (hW : WO D dA md A s ad σ H locs) (hx : ∀ b, x = some b → vokN σ b) (hx5 : (kdT md σ a).1 = 5 → ∀ b, x = some b → 10 ≤ (kdT md σ b).1) (he : e_E ad dA md (wr σ a j x) a = e1) (h1 : va_P D CL ((e_W ad dA md σ).set a (ad a, e1)) H1) (h2 : va_D A ((e_W ad dA md σ).set a (ad a, e1))) (h3 : va_S A s.heap H1 locs1) : WO D dA md A s ad (wr σ a j x) H1 locs1 := by
  subst he
  rw [e_set (σ := σ) (τ := wr σ a j x) rfl (fun b hb => ew_r hb)] at h1 h2
  exact ⟨h1, h2, h3, WFs_wr hW.2.2.2 hx hx5⟩
theorem sn_iastore (hx : p.tables.exec = Jvm.exec) (hb : c.code = cc) (hK : va_K D CL (TYS dA) s) {i x : Int32} (hd : decode cc pc = .ok (.iastore, 1)) (hk : (kdT md σ a).1 = 1) (hi : inb i (kdT md σ a).2) (k : GL p l e R s m args below meth c D dA md A nL cells slots Q ad (pc + 1) L r (wi σ a i.toNatClampNeg x)) : GL p l e R s m args below meth c D dA md A nL cells slots Q ad pc L (.int x :: .int i :: .ref a :: r) σ := by
  intro H locs ls hW hL hV
  have ha := hW.2.2.2.lt (a := a) (by omega)
  exact va_iast hx hb hK hW.1 hW.2.1 hW.2.2.1 a 0 ((e_at ha).trans (by rw [e_1 hk])) rfl (in_of hi) hd (fun H1 locs1 h1 h2 h3 => k H1 locs1 ls (hW.si (fun q => by omega) (by rw [e_1 (show (kdT md (wi σ a i.toNatClampNeg x) a).1 = 1 from hk), gi_wi]; rfl) h1 h2 h3) hL ⟨fq1 (fq2 hV.1), hV.2⟩)
theorem sn_lastore (hx : p.tables.exec = Jvm.exec) (hb : c.code = cc) (hK : va_K D CL (TYS dA) s) {i : Int32} {x : Int64} (hd : decode cc pc = .ok (.lastore, 1)) (hk : (kdT md σ a).1 = 2) (hi : inb i (kdT md σ a).2) (k : GL p l e R s m args below meth c D dA md A nL cells slots Q ad (pc + 1) L r (wl σ a i.toNatClampNeg x)) : GL p l e R s m args below meth c D dA md A nL cells slots Q ad pc L (.long x :: .int i :: .ref a :: r) σ := by
  intro H locs ls hW hL hV
  have ha := hW.2.2.2.lt (a := a) (by omega)
  exact va_last hx hb hK hW.1 hW.2.1 hW.2.2.1 a 1 ((e_at ha).trans (by rw [e_2 hk])) rfl (in_of hi) hd (fun H1 locs1 h1 h2 h3 => k H1 locs1 ls (hW.sl (by rw [e_2 (show (kdT md (wl σ a i.toNatClampNeg x) a).1 = 2 from hk), gl_wl]; rfl) h1 h2 h3) hL ⟨fq1 (fq2 hV.1), hV.2⟩)
theorem nar8 (x : Int32) : (am_nr 3 x).toInt8.toInt32 = am_nr 3 x := congrArg Int8.toInt32 (Int8.toInt8_toInt32 x.toInt8)
theorem nar3 (x : Int32) : vp_nar .byte x = am_nr 3 x := rfl
theorem nar4 (x : Int32) : vp_nar .boolean x = am_nr 4 x := rfl
theorem sn_bastore (hx : p.tables.exec = Jvm.exec) (hb : c.code = cc) (hK : va_K D CL (TYS dA) s) {i x : Int32} (hd : decode cc pc = .ok (.bastore, 1)) (hk : (kdT md σ a).1 = 3 ∨ (kdT md σ a).1 = 4) (hi : inb i (kdT md σ a).2) (k : GL p l e R s m args below meth c D dA md A nL cells slots Q ad (pc + 1) L r (wi σ a i.toNatClampNeg (am_nr (kdT md σ a).1 x))) : GL p l e R s m args below meth c D dA md A nL cells slots Q ad pc L (.int x :: .int i :: .ref a :: r) σ := by
  intro H locs ls hW hL hV
  have ha := hW.2.2.2.lt (a := a) (by omega)
  rcases hk with hk | hk
  · rw [hk] at k
    exact va_bast hx hb hK hW.1 hW.2.1 hW.2.2.1 a 2 ((e_at ha).trans (by rw [e_3 hk])) rfl (in_of hi) hd (fun H1 locs1 h1 h2 h3 => k H1 locs1 ls (hW.si (fun _ => nar8 x) (by rw [e_3 (show (kdT md (wi σ a i.toNatClampNeg (am_nr 3 x)) a).1 = 3 from hk), gi_wi, ← nar3]; rfl) h1 h2 h3) hL ⟨fq1 (fq2 hV.1), hV.2⟩)
  · rw [hk] at k
    exact va_zast hx hb hK hW.1 hW.2.1 hW.2.2.1 a 3 ((e_at ha).trans (by rw [e_4 hk])) rfl (in_of hi) hd (fun H1 locs1 h1 h2 h3 => k H1 locs1 ls (hW.si (fun q => by omega) (by rw [e_4 (show (kdT md (wi σ a i.toNatClampNeg (am_nr 4 x)) a).1 = 4 from hk), gi_wi, ← nar4]; rfl) h1 h2 h3) hL ⟨fq1 (fq2 hV.1), hV.2⟩)
theorem map_up {ad : Nat → Nat} {f : Nat → Option Nat} {j : Nat} {x : Option Nat} : (fun i => (va_up f j x i).map ad) = va_up (fun i => (f i).map ad) j (x.map ad) := by
  funext i
  unfold va_up
  by_cases h : i = j
  · rw [if_pos h, if_pos h]
  · rw [if_neg h, if_neg h]
theorem sn_aasn (hx : p.tables.exec = Jvm.exec) (hb : c.code = cc) (hK : va_K D CL (TYS dA) s) {i : Int32} (hd : decode cc pc = .ok (.aastore, 1)) (hk : (kdT md σ a).1 = 5) (hi : inb i (kdT md σ a).2) (k : GL p l e R s m args below meth c D dA md A nL cells slots Q ad (pc + 1) L r (wr σ a i.toNatClampNeg none)) : GL p l e R s m args below meth c D dA md A nL cells slots Q ad pc L (.null :: .int i :: .ref a :: r) σ := by
  intro H locs ls hW hL hV
  have ha := hW.2.2.2.lt (a := a) (by omega)
  exact va_astqN hx hb hK hW.1 hW.2.1 hW.2.2.1 a 4 ((e_at ha).trans (by rw [e_56 (Or.inl hk), hk])) rfl (in_of hi) hd (fun H1 locs1 h1 h2 h3 => k H1 locs1 ls (hW.sr (fun b hb => nomatch hb) (fun _ b hb => nomatch hb) (by rw [e_56 (Or.inl (show (kdT md (wr σ a i.toNatClampNeg none) a).1 = 5 from hk)), gr_wr, map_up, show (kdT md (wr σ a i.toNatClampNeg none) a).1 = 5 from hk]; rfl) h1 h2 h3) hL ⟨fq1 (fq2 hV.1), hV.2⟩)
end SNH
