/-! SOUNDNESS 10: throws -/
set_option maxRecDepth 100000
section SNT
variable {p : Program} {l : Launch} {e : Env} {R : Room} {s : State} {m : MethodId} {args : Array Value} {below : List Frame} {meth : Method} {c : Code} {cells slots mc ms : Nat} {Q : State → Prop} {cc : ByteArray} {D : va_G} {dA : Nat → Nat} {md : Bool} {z0 : Nat} {nL : Nat} {ad ad0 : Nat → Nat} {pc len : Nat} {L : Lo} {st r : List Value} {σ σ0 : Sg} {ec x a : Nat}
theorem sn_athrow (hx : p.tables.exec = Jvm.exec) (hb : c.code = cc) (hK : va_K D CL (TYS dA) s) (hd : decode cc pc = .ok (.athrow, 1)) (hk : (kdT md σ a).1 = 24 ∧ ec = 1 ∨ (kdT md σ a).1 = 25 ∧ ec = 2) (k : XL p l e R s m args below meth c D dA md (AA z0) nL cells slots Q ad pc L r ec a σ) : GL p l e R s m args below meth c D dA md (AA z0) nL cells slots Q ad pc L (.ref a :: r) σ := by
  intro H locs ls hW hL hV
  have ha := hW.2.2.2.lt (a := a) (by omega)
  have hV1 : VOK σ L r := ⟨fq1 hV.1, hV.2⟩
  rcases hk with ⟨h1, rfl⟩ | ⟨h1, rfl⟩
  · obtain ⟨r', h2, cell, q1, q2, q3, q4⟩ := hW.1 a _ ((e_at ha).trans (by rw [e_o (by omega), h1]))
    cases h2
    exact vx_athrow hx hb hd (k H locs ls cell (ad a) hW hL hV1 (fun _ => ⟨rfl, ha⟩) q1 q3 (by rw [q2]; exact (hK.1 14 _ rfl).2.1))
  · obtain ⟨r', h2, cell, q1, q2, q3, q4⟩ := hW.1 a _ ((e_at ha).trans (by rw [e_o (by omega), h1]))
    cases h2
    exact vx_athrow hx hb hd (k H locs ls cell (ad a) hW hL hV1 (fun _ => ⟨rfl, ha⟩) q1 q3 (by rw [q2]; exact (hK.1 15 _ rfl).2.1))
theorem sn_out (hcov : ∀ z ∈ c.exceptionTable.toList, covers z pc = false) (hlocks : meth.locks = false) (he : ext ad0 ad σ0) (hc : cells ≤ mc) (hs : slots ≤ ms) : XL p l e R s m args below meth c D dA md (AA z0) nL cells slots (vx_MQ below (Qret D dA md z0 ad0 σ0 (.inr (ec, x), σ)) (Xthr D dA md z0 ad0 σ0 (.inr (ec, x), σ)) args s mc ms (AA z0)) ad pc L st ec x σ := by
  intro H locs ls ce q9 hW hL hV h1 h2 h3 h4
  refine vx_out (E := XN ec) hcov hlocks h2 h3 h4 (fun t ht _ => ?_) hW.2.2.1.2.2 hc hs
  refine ⟨ad, he, ⟨ec, x, rfl, rfl, h1, ?_⟩, hW.2.2.1.F ht⟩
  show HB D dA md z0 ad σ t.heap
  rw [ht]
  exact ⟨hW.1, hW.2.1, hW.2.2.2⟩
/-- caught: an exception of the program's own -/
theorem sn_caught {own : String} (hown : s.vm.findClass own = some m.cls) (pre : List ExceptionTableEntry) (z : ExceptionTableEntry) (suf : List ExceptionTableEntry) (hsplit : c.exceptionTable.toList = pre ++ z :: suf) (hpass : ∀ y ∈ pre, covers y pc = false) (hz : covers z pc = true) (h0 : z.catchType ≠ 0) (hlink : (Cond.classLink own z.catchType (XN ec)).before args s = true) (hcast : (Cond.castable (XN ec) (XN ec)).before args s = true) (hec : ec ≤ 2) (k : GL p l e R s m args below meth c D dA md (AA z0) nL cells slots Q ad z.handlerPc L [.ref x] σ) : XL p l e R s m args below meth c D dA md (AA z0) nL cells slots Q ad pc L st ec x σ := by
  intro H locs ls ce q9 hW hL hV h1 h2 h3 h4
  obtain ⟨rfl, hlt⟩ := h1 hec
  have hv1 : ∀ v ∈ [Value.ref x], vok σ v := fun v hv => by
    rcases List.mem_cons.mp hv with e | hv
    · rw [e]; exact Or.inl hlt
    · cases hv
  exact vx_catch hown pre z suf hsplit (fun y hy => Or.inl (hpass y hy)) hz h0 hlink hcast h2 h3 h4 (k H locs ls hW hL ⟨hv1, hV.2⟩)
end SNT
