/-! SOUNDNESS 15: what is caught -/
set_option maxRecDepth 100000
def ent4 (h : ExceptionTableEntry) : Nat × Nat × Nat × Nat := (h.startPc, h.endPc, h.handlerPc, h.catchType)
theorem cov_t {z : ExceptionTableEntry} {pc : Nat} (h : z.startPc ≤ pc ∧ pc < z.endPc) : covers z pc = true := by
  show (decide (z.startPc ≤ pc) && decide (pc < z.endPc)) = true
  rw [decide_eq_true h.1, decide_eq_true h.2]
  rfl
theorem cov_f {z : ExceptionTableEntry} {pc : Nat} (h : ¬ (z.startPc ≤ pc ∧ pc < z.endPc)) : covers z pc = false := by
  show (decide (z.startPc ≤ pc) && decide (pc < z.endPc)) = false
  by_cases h1 : z.startPc ≤ pc
  · rw [decide_eq_false (fun h2 => h ⟨h1, h2⟩), Bool.and_false]
  · rw [decide_eq_false h1, Bool.false_and]
theorem catch_none {own : String} {pc ec : Nat} : ∀ (hh : List (Nat × Nat × Nat × Nat)) (T : List ExceptionTableEntry), HHq own hh (T.map ent4) → am_hnd hh pc ec = none → ∀ z ∈ T, covers z pc = false := by
  intro hh
  induction hh with
  | nil =>
    intro T h hn z hz
    cases T with
    | nil => cases hz
    | cons y T => exact h.elim
  | cons a hh ih =>
    intro T h hn z hz
    obtain ⟨a0, a1, a2, a3⟩ := a
    cases T with
    | nil => cases hz
    | cons y T =>
      have h1 : (a0 = y.startPc ∧ a1 = y.endPc ∧ a2 = y.handlerPc ∧ Cond.classLink own y.catchType (XN a3) ∈ lw_all ∧ Cond.castable (XN a3) (XN a3) ∈ lw_tbl ∧ y.catchType ≠ 0) ∧ HHq own hh (T.map ent4) := h
      obtain ⟨⟨e0, e1, -⟩, h2⟩ := h1
      unfold am_hnd at hn
      split at hn
      · split at hn <;> cases hn
      · rename_i hc
        rcases List.mem_cons.mp hz with e | hz
        · rw [e]
          refine cov_f (fun q => hc ?_)
          rw [e0, e1]
          exact q
        · exact ih T h2 hn z hz
theorem catch_some {own : String} {pc ec t : Nat} (ht : t ≠ 99999) : ∀ (hh : List (Nat × Nat × Nat × Nat)) (T : List ExceptionTableEntry), HHq own hh (T.map ent4) → am_hnd hh pc ec = some t → ∃ pre z suf, T = pre ++ z :: suf ∧ (∀ y ∈ pre, covers y pc = false) ∧ covers z pc = true ∧ z.handlerPc = t ∧ z.catchType ≠ 0 ∧ Cond.classLink own z.catchType (XN ec) ∈ lw_all ∧ Cond.castable (XN ec) (XN ec) ∈ lw_tbl := by
  intro hh
  induction hh with
  | nil => intro T h hn; cases hn
  | cons a hh ih =>
    intro T h hn
    obtain ⟨a0, a1, a2, a3⟩ := a
    cases T with
    | nil => exact h.elim
    | cons y T =>
      have h1 : (a0 = y.startPc ∧ a1 = y.endPc ∧ a2 = y.handlerPc ∧ Cond.classLink own y.catchType (XN a3) ∈ lw_all ∧ Cond.castable (XN a3) (XN a3) ∈ lw_tbl ∧ y.catchType ≠ 0) ∧ HHq own hh (T.map ent4) := h
      obtain ⟨⟨e0, e1, e2, e3, e4, e5⟩, h2⟩ := h1
      unfold am_hnd at hn
      split at hn
      · rename_i hc
        split at hn
        · rename_i hx
          cases hn
          subst hx
          exact ⟨[], y, T, rfl, (fun _ h => nomatch h), cov_t (by rw [← e0, ← e1]; exact hc), e2.symm, e5, e3, e4⟩
        · exact absurd (Option.some.inj hn).symm ht
      · rename_i hc
        obtain ⟨pre, z, suf, g1, g2, g3⟩ := ih T h2 hn
        refine ⟨y :: pre, z, suf, by rw [g1]; rfl, fun w hw => ?_, g3⟩
        rcases List.mem_cons.mp hw with e | hw
        · rw [e]
          refine cov_f (fun q => hc ?_)
          rw [e0, e1]
          exact q
        · exact g2 w hw
theorem stN_mem {ad : Nat → Nat} {L : Lo} {k : Nat} {w : Value} (i : Nat) (v : Value) (h : ((am_kl L k).set k none)[i]? = some (some v)) : (i, mv ad v) ∈ (k, w) :: (toL ad L).filter (fun q => !(q.1 == k) && !(q.1 + 1 == k && q.2.category == 2)) := by
  by_cases hk : k = i
  · subst hk
    rw [List.getElem?_set] at h
    simp only [if_true] at h
    split at h <;> cases h
  · rw [List.getElem?_set_ne hk] at h
    obtain ⟨h2, h3⟩ := kl_at h
    have h1 : i ≠ k := fun q => hk q.symm
    refine List.mem_cons_of_mem _ (List.mem_filter.mpr ⟨mem_toL.mpr ⟨v, h2, rfl⟩, ?_⟩)
    by_cases h4 : i + 1 = k
    · simp [h1, h4, mv_cat, h3 h4]
    · simp [h1, h4]
theorem stN_len (L : Lo) (i : Nat) : ((am_kl L i).set i none).length = L.length := by rw [List.length_set, kl_len]
section SNU
variable {p : Program} {l : Launch} {e : Env} {R : Room} {s : State} {m : MethodId} {args : Array Value} {below : List Frame} {meth : Method} {c : Code} {cells slots : Nat} {Q : State → Prop} {cc : ByteArray} {D : va_G} {dA : Nat → Nat} {md : Bool} {z0 : Nat} {nL : Nat} {ad : Nat → Nat} {pc len : Nat} {L : Lo} {st r : List Value} {σ : Sg} {own : String} {ec x : Nat}
/-- caught: an exception that the machine made; the handler puts it away first -/
theorem sn_caughtV (hx : p.tables.exec = Jvm.exec) (hb : c.code = cc) (hown : s.vm.findClass own = some m.cls) (pre : List ExceptionTableEntry) (z : ExceptionTableEntry) (suf : List ExceptionTableEntry) (hsplit : c.exceptionTable.toList = pre ++ z :: suf) (hpass : ∀ y ∈ pre, covers y pc = false) (hz : covers z pc = true) (h0 : z.catchType ≠ 0) (hlink : (Cond.classLink own z.catchType (XN ec)).before args s = true) (hcast : (Cond.castable (XN ec) (XN ec)).before args s = true) {n ln : Nat} (hd : (∃ k : Fin 4, decode cc z.handlerPc = .ok (.astore_n k, 1) ∧ (k : Nat) = n ∧ ln = 1) ∨ (decode cc z.handlerPc = .ok (.astore n, 2) ∧ ln = 2)) (hn : n < nL) (k : GL p l e R s m args below meth c D dA md (AA z0) nL cells slots Q ad (z.handlerPc + ln) ((am_kl L n).set n none) [] σ) : XL p l e R s m args below meth c D dA md (AA z0) nL cells slots Q ad pc L st ec x σ := by
  intro H locs ls ce q9 hW hL hV h1 h2 h3 h4
  refine vx_catch hown pre z suf hsplit (fun y hy => Or.inl (hpass y hy)) hz h0 hlink hcast h2 h3 h4 ?_
  have hV2 : VOK σ ((am_kl L n).set n none) [] := by
    refine ⟨(fun _ h => nomatch h), fun i v hv => ?_⟩
    by_cases hk : n = i
    · subst hk
      rw [List.getElem?_set] at hv
      simp only [if_true] at hv
      split at hv <;> cases hv
    · rw [List.getElem?_set_ne hk] at hv
      exact hV.2 i v (kl_at hv).1
  rcases hd with ⟨k4, hd, rfl, rfl⟩ | ⟨hd, rfl⟩
  · exact lv_astore_n hx hb hd rfl hL.has hn rfl (fun ls1 h1 => k H locs ls1 hW (lvR.of h1 ((stN_len L _).trans hL.1) (fun i v hv => stN_mem i v hv)) hV2)
  · exact lv_astore hx hb hd hL.has hn rfl (fun ls1 h1 => k H locs ls1 hW (lvR.of h1 ((stN_len L _).trans hL.1) (fun i v hv => stN_mem i v hv)) hV2)
end SNU
