/-! SOUNDNESS 5: new cells; constants -/
set_option maxRecDepth 100000
theorem K1_nz : ∀ q ∈ K1, q.1 ≠ 0 := by decide +kernel
theorem T1_le : T1.length ≤ K1.length := by decide +kernel
theorem WFs.big {md : Bool} {σ : Sg} (h : WFs md σ) (hm : md = true) : K1.length ≤ gz σ := by
  subst hm
  rcases Nat.lt_or_ge (gz σ) K1.length with q | q
  · exfalso
    have h1 := h.2.2.2.2.2.1 (gz σ) (Nat.le_refl _)
    have h2 : K1[gz σ]? = some K1[gz σ] := List.getElem?_eq_getElem q
    unfold kdT at h1
    rw [h2] at h1
    exact K1_nz _ (List.getElem_mem q) h1
  · exact q
theorem kd_at {md : Bool} {σ : Sg} {a : Nat} (h : md = true → K1.length ≤ a) : kdT md σ a = gk σ a := by
  cases md with
  | false => rfl
  | true =>
    unfold kdT
    rw [List.getElem?_eq_none (h rfl)]
theorem st_at {md : Bool} {a k : Nat} (h : md = true → K1.length ≤ a) : stT md a k = none := by
  cases md with
  | false => rfl
  | true =>
    show am_tb T1 a k = none
    unfold am_tb
    rw [List.getElem?_eq_none (Nat.le_trans T1_le (h rfl))]
theorem gk_wn {σ : Sg} {q : Nat × Nat} {n : Nat} : gk (wn σ q n) (gz σ) = q := if_pos rfl
theorem gk_wn_ne {σ : Sg} {q : Nat × Nat} {n b : Nat} (h : b ≠ gz σ) : gk (wn σ q n) b = gk σ b := if_neg h
theorem gi_wn {σ : Sg} {q : Nat × Nat} {n : Nat} : gi (wn σ q n) (gz σ) = fun _ => 0 := funext fun _ => if_pos rfl
theorem gl_wn {σ : Sg} {q : Nat × Nat} {n : Nat} : gl (wn σ q n) (gz σ) = fun _ => 0 := funext fun _ => if_pos rfl
theorem gr_wn {σ : Sg} {q : Nat × Nat} {n : Nat} : gr (wn σ q n) (gz σ) = fun _ => none := funext fun _ => if_pos rfl
theorem gi_wn_ne {σ : Sg} {q : Nat × Nat} {n b : Nat} (h : b ≠ gz σ) : gi (wn σ q n) b = gi σ b := funext fun _ => if_neg h
theorem gl_wn_ne {σ : Sg} {q : Nat × Nat} {n b : Nat} (h : b ≠ gz σ) : gl (wn σ q n) b = gl σ b := funext fun _ => if_neg h
theorem gr_wn_ne {σ : Sg} {q : Nat × Nat} {n b : Nat} (h : b ≠ gz σ) : gr (wn σ q n) b = gr σ b := funext fun _ => if_neg h
theorem kd_wn_ne {md : Bool} {σ : Sg} {q : Nat × Nat} {n b : Nat} (h : b ≠ gz σ) : kdT md (wn σ q n) b = kdT md σ b := by
  unfold kdT
  rw [gk_wn_ne h]
theorem grT_wn_ne {md : Bool} {σ : Sg} {q : Nat × Nat} {n b k : Nat} (h : b ≠ gz σ) : grT md (wn σ q n) b k = grT md σ b k := by
  unfold grT
  rw [gr_wn_ne h]
theorem am_new_i {σ σ1 : Sg} {q : Nat × Nat} {n : Nat} (h : am_new σ q n = some σ1) : gz σ < 500000 ∧ gs σ + n < 5000000 ∧ σ1 = wn σ q n := by
  unfold am_new at h
  by_cases hc : gz σ < 500000 ∧ gs σ + n < 5000000
  · rw [if_pos hc] at h
    cases h
    exact ⟨hc.1, hc.2, rfl⟩
  · rw [if_neg hc] at h
    cases h
theorem WFs_wn {md : Bool} {σ : Sg} {q : Nat × Nat} {n : Nat} (h : WFs md σ) (hq : kOK q.1) (h1 : gz σ < 500000) (h2 : gs σ + n < 5000000) : WFs md (wn σ q n) := by
  have hb := h.big
  have hz : gz (wn σ q n) = gz σ + 1 := rfl
  have hk : kdT md (wn σ q n) (gz σ) = q := (kd_at hb).trans gk_wn
  have hg : ∀ k, grT md (wn σ q n) (gz σ) k = none := fun k => by
    unfold grT
    rw [st_at hb, gr_wn]
  refine ⟨fun a ha => ?_, fun a k b ha hb1 => ?_, fun a k b ha hb1 => ?_, by rw [hz]; omega, Nat.zero_le _, fun a ha => ?_, fun a k ha => ?_, fun a k b ha hb1 => ?_⟩
  · by_cases hc : a = gz σ
    · rw [hc, hk]; exact hq
    · rw [kd_wn_ne hc]; exact h.1 a (by omega)
  · by_cases hc : a = gz σ
    · rw [hc, hg] at hb1; cases hb1
    · rw [grT_wn_ne hc] at hb1
      exact (h.2.1 a k b (by omega) hb1).up (by omega)
  · by_cases hc : a = gz σ
    · rw [hc, gr_wn] at hb1; cases hb1
    · rw [gr_wn_ne hc] at hb1
      exact (h.2.2.1 a k b (by omega) hb1).up (by omega)
  · rw [kd_wn_ne (by omega)]
    exact h.2.2.2.2.2.1 a (by omega)
  · by_cases hc : a = gz σ
    · rw [hc, gi_wn]; rfl
    · rw [kd_wn_ne hc] at ha
      rw [gi_wn_ne hc]
      exact h.2.2.2.2.2.2.1 a k ha
  · by_cases hc : a = gz σ
    · rw [hc, gr_wn] at hb1; cases hb1
    · rw [kd_wn_ne hc] at ha
      rw [gr_wn_ne hc] at hb1
      have h9 := h.2.2.2.2.2.2.2 a k b ha hb1
      rw [kd_wn_ne (fun e => by
        have := h.lt (a := b) (by omega)
        omega)]
      exact h9
theorem ext_up {ad : Nat → Nat} {σ : Sg} {md : Bool} {q : Nat} (h : WFs md σ) : ext ad (upA ad (gz σ) q) σ := by
  intro b hb
  unfold upA
  rw [if_neg]
  intro hc
  rcases hb with hb | hb
  · omega
  · have := h.2.2.2.1; omega
theorem e_wn {ad dA : Nat → Nat} {md : Bool} {σ : Sg} {q : Nat × Nat} {n a b : Nat} (h : WFs md σ) (hb : b < gz σ) : e_E (upA ad (gz σ) a) dA md (wn σ q n) b = e_E ad dA md σ b := by
  have hne : b ≠ gz σ := by omega
  rw [e_cg (τ := wn σ q n) (σ := σ) (kd_wn_ne hne) (gi_wn_ne hne) (gl_wn_ne hne) (gr_wn_ne hne)]
  exact e_ad (fun k c hc => ext_up h c (h.2.2.1 b k c hb hc)) (fun k c hc => ext_up h c (h.2.1 b k c hb hc))
theorem e_wnO {ad dA : Nat → Nat} {md : Bool} {σ : Sg} {c n : Nat} (h : WFs md σ) (hc : 10 ≤ c) : e_E ad dA md (wn σ (c, 0) n) (gz σ) = .inr (c - 10, (e_f c).map dfl) := by
  have hk : kdT md (wn σ (c, 0) n) (gz σ) = (c, 0) := (kd_at h.big).trans gk_wn
  rw [e_o (by rw [hk]; exact hc), hk]
  have : (e_f c).mapIdx (fun k t => e_v ad md (wn σ (c, 0) n) (gz σ) k t) = (e_f c).map dfl := by
    apply List.ext_getElem?
    intro j
    rw [List.getElem?_mapIdx, List.getElem?_map]
    cases (e_f c)[j]? with
    | none => rfl
    | some t =>
      refine congrArg some ?_
      match t with
      | 0 => exact congrArg Value.int (congrFun gi_wn j)
      | 1 => exact congrArg Value.long (congrFun gl_wn j)
      | 2 =>
        show va_rf ((grT md (wn σ (c, 0) n) (gz σ) j).map ad) = .null
        unfold grT
        rw [st_at h.big, gr_wn]
        rfl
      | t + 3 => exact congrArg Value.int (congrFun gi_wn j)
  rw [this]
theorem e_wnA {ad dA : Nat → Nat} {md : Bool} {σ : Sg} {c n : Nat} (h : WFs md σ) (h1 : 1 ≤ c) (h6 : c ≤ 6) : e_E ad dA md (wn σ (c, n) n) (gz σ) = .inl (dA c, n, if c = 2 then .inr (.inl (fun _ => 0)) else if c ≤ 4 then .inl (fun _ => 0) else .inr (.inr (.inr (.inr (fun _ => none))))) := by
  have hk : kdT md (wn σ (c, n) n) (gz σ) = (c, n) := (kd_at h.big).trans gk_wn
  have hcase : c = 1 ∨ c = 2 ∨ c = 3 ∨ c = 4 ∨ c = 5 ∨ c = 6 := by omega
  rcases hcase with rfl | rfl | rfl | rfl | rfl | rfl
  · rw [e_1 (by rw [hk]), hk, gi_wn]; rfl
  · rw [e_2 (by rw [hk]), hk, gl_wn]; rfl
  · rw [e_3 (by rw [hk]), hk, gi_wn]; rfl
  · rw [e_4 (by rw [hk]), hk, gi_wn]; rfl
  · rw [e_56 (by rw [hk]; exact Or.inl rfl), hk, gr_wn]; rfl
  · rw [e_56 (by rw [hk]; exact Or.inr rfl), hk, gr_wn]; rfl
section SNN
variable {p : Program} {l : Launch} {e : Env} {R : Room} {s : State} {m : MethodId} {args : Array Value} {below : List Frame} {meth : Method} {c : Code} {cells slots : Nat} {Q : State → Prop} {cc : ByteArray} {D : va_G} {dA : Nat → Nat} {md : Bool} {z0 : Nat} {nL : Nat} {ad : Nat → Nat} {pc : Nat} {L : Lo} {r : List Value} {σ σ1 : Sg} {own : String} {idx : Nat}
/-- the world with one more -/
theorem WO_wn {H1 H : Heap} {locs : List Loc} {q n : Nat} {k : Nat × Nat} {e1 : va_E} (hW : WO D dA md (AA z0) s ad σ H locs) (hk : kOK k.1) (h1 : gz σ < 500000) (h2 : gs σ + n < 5000000) (he : e_E (upA ad (gz σ) q) dA md (wn σ k n) (gz σ) = e1) (g1 : va_P D CL (e_W ad dA md σ ++ [(q, e1)]) H1) (g2 : va_D (AA z0) (e_W ad dA md σ ++ [(q, e1)])) (g3 : va_S (AA z0) s.heap H1 locs) : WO D dA md (AA z0) s (upA ad (gz σ) q) (wn σ k n) H1 locs := by
  rw [e_push (τ := wn σ k n) (ad1 := upA ad (gz σ) q) rfl (if_pos rfl) he (fun b hb => ext_up hW.2.2.2 b (Or.inl hb)) (fun b hb => e_wn hW.2.2.2 hb)] at g1 g2
  exact ⟨g1, g2, g3, WFs_wn hW.2.2.2 hk h1 h2⟩
theorem sn_new {ck n : Nat} (hx : p.tables.exec = Jvm.exec) (hb : c.code = cc) (hK : va_K D CL (TYS dA) s) (hC : ∀ q ∈ CL, CLS q) (ht : ∀ w ∈ lw_all, w.before args s = true) (hown : s.vm.findClass own = some m.cls) (hz : z0 ≤ s.heap.size) (hN : NOK own idx ck n) (hd : decode cc pc = .ok (.new idx, 3)) (hg : am_new σ (ck, 0) n = some σ1) (hcells : cells + 1 ≤ R.cells) (hslots : slots + n ≤ R.slots) (k : ∀ ad1, ext ad ad1 σ → GL p l e R s m args below meth c D dA md (AA z0) nL (cells + 1) (slots + n) Q ad1 (pc + 3) L (.ref (gz σ) :: r) σ1) : GL p l e R s m args below meth c D dA md (AA z0) nL cells slots Q ad pc L r σ := by
  intro H locs ls hW hL hV
  obtain ⟨hc10, q, hq, hn, h1, h2, h3, h4, h5⟩ := hN
  obtain ⟨g1, g2, rfl⟩ := am_new_i hg
  obtain ⟨hin, ⟨ty, hty⟩, hnm⟩ := hC q (List.mem_of_getElem? hq)
  subst hn
  have hkk : kOK ck := ⟨by omega, Or.inr ⟨hc10, by
    have := (List.getElem?_eq_some_iff.mp hq).1
    have h27 : CL.length = 27 := rfl
    omega⟩⟩
  refine va_new (C := q.1) (T := q.2.1) (N := q.2.2) (fs := (e_f ck).map dfl) hx hb ht hin ty hty hown (ht _ h1) (ht _ h2) (ht _ h3) hK hW.1 hW.2.1 hW.2.2.1 (fun x hxx => Nat.le_trans hz hxx) hq (fun j hj => ?_) hcells hslots hd (fun a H1 w1 w2 w3 => ?_)
  · have e1 := h5 j hj
    rw [hty j hj] at e1
    have e2 : ((e_f ck).map dfl)[j]? = some (defaultValue (ty j)) := by rw [List.getElem?_map]; exact e1.symm
    unfold vp_V
    rw [List.getD_eq_getElem?_getD, e2]
    rfl
  · have hex := ext_up (ad := ad) (q := a) hW.2.2.2
    have hup : gz σ ≤ gz (wn σ (ck, 0) q.2.2) := Nat.le_succ _
    have kk := k (upA ad (gz σ) a) hex H1 locs ls (WO_wn hW hkk g1 g2 (e_wnO hW.2.2.2 hc10) w1 w2 w3) (hL.ext hex hV.2) ⟨fqc (Or.inl (Nat.lt_succ_self _)) (fun v hv => (hV.1 v hv).up hup), fun i v hv => (hV.2 i v hv).up hup⟩
    rw [List.map_cons, map_ext hex hV.1] at kk
    have : mv (upA ad (gz σ) a) (.ref (gz σ)) = .ref a := congrArg Value.ref (if_pos rfl)
    rw [this] at kk
    exact kk
end SNN
