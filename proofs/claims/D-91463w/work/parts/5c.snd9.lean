/-! SOUNDNESS 9: the ends of a method -/
set_option maxRecDepth 100000
section SNR
variable {p : Program} {l : Launch} {e : Env} {R : Room} {s : State} {m : MethodId} {args : Array Value} {below : List Frame} {meth : Method} {c : Code} {cells slots : Nat} {Q : State → Prop} {cc : ByteArray} {D : va_G} {dA : Nat → Nat} {md : Bool} {z0 : Nat} {nL : Nat} {ad ad0 : Nat → Nat} {pc len : Nat} {L : Lo} {st : List Value} {σ σ0 : Sg} {H : Heap} {locs : List Loc}
theorem W_vret {Qc : Array Value → State → Outcome → State → Prop} {free : Addr → Prop} (hexec : p.tables.exec = Jvm.exec) (hb : c.code = cc) (hr : meth.sig.returnType = none)
    (hq : ∀ t : State, t.heap = H → s.WarmedH t.vm → Qc args s (.returned none) t) (hf : ∀ q ∈ locs, free q.base)
    {ls : Array Slot} {rest : List Value} (hdg : decode cc pc = .ok (.return_, 1)) (hlocks : meth.locks = false) : W p l e R s m args below meth c H locs cells slots (MQ below Qc args s cells slots free) (F0 m pc ls rest) := by
  intro T hT X
  obtain ⟨fs, hret, hrun, hended, hW, hframe⟩ := X.leave (v := none) (hlocks := hlocks) (fun _ => rfl)
  have hmeth' : T.vm.method? m = some meth := X.method'
  refine ⟨T.setFrames fs, ?_, .returned none, hrun, hended, hq _ hT hW, locs, ⟨⟨_, rfl⟩, hW, hframe⟩, hf⟩
  jvm_step X.here [X.here.top, hexec, hb, hdg, hmeth', hr]
  (try refine ⟨rfl, ?_⟩); (try refine ⟨rfl, ?_⟩)
  first | (intro acts; rw [hret _ acts rfl rfl rfl]) | rw [hret _ _ rfl rfl rfl]
  exact Steps.refl _
theorem nr2 {x : Int32} (h : am_ok 3 x = true) : narrow .boolean (.int x) = .int x := by
  have h : (x == 0 || x == 1) = true := h
  rcases Bool.or_eq_true_iff.mp h with h | h
  · rw [eq_of_beq h]; rfl
  · rw [eq_of_beq h]; rfl
theorem nr7 {x : Int32} (h : am_ok 4 x = true) : narrow .byte (.int x) = .int x := by
  have h : (x.toInt8.toInt32 == x) = true := h
  rw [← eq_of_beq h]
  exact pk_nb x
theorem nr6 {x : Int32} (h : am_ok 5 x = true) : narrow .char (.int x) = .int x := by
  have h : ((x.toUInt32 % 65536).toInt32 == x) = true := h
  rw [← eq_of_beq h]
  exact pk_nc x
theorem sn_ret {M : Mi} {ins : Instr} {ret : Option FieldType} {v : Option Value} (hx : p.tables.exec = Jvm.exec) (hb : c.code = cc) (hr : meth.sig.returnType = ret) (hrk : rkq (am_rk M) ret) (hlocks : meth.locks = false) (hd : decode cc pc = .ok (ins, ilen ins)) (hq : RETQ M ins st v) (he : ext ad0 ad σ0) : GL p l e R s m args below meth c D dA md (AA z0) nL cells slots (vx_MQ below (Qret D dA md z0 ad0 σ0 (.inl v, σ)) (Xthr D dA md z0 ad0 σ0 (.inl v, σ)) args s cells slots (AA z0)) ad pc L st σ := by
  intro H locs ls hW hL hV
  have hQ : ∀ (hv : vokO σ v) (t : State), t.heap = H → s.WarmedH t.vm → Qret D dA md z0 ad0 σ0 (.inl v, σ) args s (.returned (mvO ad v)) t := fun hv t ht _ => ⟨⟨mvO ad v, ad, rfl, ⟨v, rfl, rfl, hv, he⟩, by show HB D dA md z0 ad σ t.heap; rw [ht]; exact ⟨hW.1, hW.2.1, hW.2.2.2⟩⟩, hW.2.2.1.F ht⟩
  have hf := hW.2.2.1.2.2
  refine vx_ret ?_
  rcases hq with ⟨rfl, rfl, h0⟩ | ⟨rfl, x, rfl, rfl, h1⟩ | ⟨rfl, x, rfl, rfl, h3⟩ | ⟨rfl, x, rfl, rfl, h4⟩ | ⟨rfl, w, rfl, rfl, hw, h5⟩
  · rw [h0] at hrk
    exact W_vret hx hb (hr.trans hrk) (hQ (fun w h => nomatch h)) hf hd hlocks
  · have hv : vokO σ (some (.int x)) := fun w h => by cases h; trivial
    rcases h1 with h1 | ⟨h1, hk⟩ | ⟨h1, hk⟩ | ⟨h1, hk⟩
    · rw [h1] at hrk
      exact W.iret hx hb (hr.trans hrk) (hQ hv) hf hd hlocks
    · rw [h1] at hrk
      exact W.zret hx hb (hr.trans hrk) (nr2 hk) (hQ hv) hf hd hlocks
    · rw [h1] at hrk
      exact W.zret hx hb (hr.trans hrk) (nr7 hk) (hQ hv) hf hd hlocks
    · rw [h1] at hrk
      exact W.zret hx hb (hr.trans hrk) (nr6 hk) (hQ hv) hf hd hlocks
  · rw [h3] at hrk
    exact W.lret hx hb (hr.trans hrk) (hQ (fun w h => by cases h; trivial)) hf hd hlocks
  · rw [h4] at hrk
    exact W.fret hx hb (hr.trans hrk) (hQ (fun w h => by cases h; trivial)) hf hd hlocks
  · rw [h5] at hrk
    obtain ⟨f, hf1, hf2⟩ := hrk
    have hv : vokO σ (some w) := fun w1 h => by cases h; exact hV.1 _ List.mem_cons_self
    exact W.aret (v := mv ad w) hx hb (hr.trans hf1) hf2 (by
      rcases hw with rfl | ⟨a, rfl⟩
      · exact Or.inl rfl
      · exact Or.inr ⟨_, rfl⟩) (hQ hv) hf hd hlocks
end SNR
