/-! SOUNDNESS 4: what a method owes; calls -/
set_option maxRecDepth 100000
/-- the addresses that the law's run may write -/
def AA (z0 : Nat) : Nat → Prop := fun q => z0 ≤ q
/-- addresses go on -/
def ext (ad ad1 : Nat → Nat) (σ : Sg) : Prop := ∀ b, vokN σ b → ad1 b = ad b
theorem ext.rf {ad : Nat → Nat} {σ : Sg} : ext ad ad σ := fun _ _ => rfl
theorem mv_ext {ad ad1 : Nat → Nat} {σ : Sg} {v : Value} (h : ext ad ad1 σ) (hv : vok σ v) : mv ad1 v = mv ad v := by
  cases v with
  | ref a => exact congrArg Value.ref (h a hv)
  | _ => rfl
theorem map_ext {ad ad1 : Nat → Nat} {σ : Sg} {st : List Value} (h : ext ad ad1 σ) (hv : ∀ v ∈ st, vok σ v) : st.map (mv ad1) = st.map (mv ad) := List.map_congr_left (fun v hm => mv_ext h (hv v hm))
theorem lvR.ext {ad ad1 : Nat → Nat} {σ : Sg} {L : Lo} {ls : Array Slot} {n : Nat} (hL : lvR ad L ls n) (h : ext ad ad1 σ) (hv : ∀ (i : Nat) (v : Value), L[i]? = some (some v) → vok σ v) : lvR ad1 L ls n := ⟨hL.1, hL.2.1, hL.2.2.1, fun i v hi => by rw [mv_ext h (hv i v hi)]; exact hL.2.2.2 i v hi⟩
theorem vokN.up {σ τ : Sg} {b : Nat} (h : vokN σ b) (hz : gz σ ≤ gz τ) : vokN τ b := h.elim (fun h => Or.inl (Nat.lt_of_lt_of_le h hz)) Or.inr
theorem vok.up {σ τ : Sg} {v : Value} (h : vok σ v) (hz : gz σ ≤ gz τ) : vok τ v := by
  cases v with
  | ref a => exact vokN.up h hz
  | _ => trivial
theorem VOK.up {σ τ : Sg} {L : Lo} {st : List Value} (h : VOK σ L st) (hz : gz σ ≤ gz τ) : VOK τ L st := ⟨fun v hv => (h.1 v hv).up hz, fun i v hv => (h.2 i v hv).up hz⟩
/-- the room's count -/
def cl (σ : Sg) : Nat := gz σ + gs σ / 1000
/-- the strings: their texts' places -/
def strL : List (String × Nat × String) → (Nat → Nat) → Nat → State → Prop
  | [], _, _, _ => True
  | x :: l, ad, j, U => vk_R x.1 x.2.1 x.2.2 (ad (1000000 + j)) U ∧ strL l ad (j + 1) U
/-- what stands of a state: classes, words -/
def SB (D : va_G) (dA : Nat → Nat) (z0 : Nat) (SX : (Nat → Nat) → State → Heap → Prop) (ad : Nat → Nat) (U : State) : Prop := z0 ≤ U.heap.size ∧ va_K D CL (TYS dA) U ∧ NWs U ∧ SX ad U U.heap
/-- the world in a heap -/
def HB (D : va_G) (dA : Nat → Nat) (md : Bool) (z0 : Nat) (ad : Nat → Nat) (σ : Sg) (H : Heap) : Prop := va_P D CL (e_W ad dA md σ) H ∧ va_D (AA z0) (e_W ad dA md σ) ∧ WFs md σ
/-- the outcome's room -/
def xt (o : Ou × Sg) : Sg := match o.1 with
  | .inl _ => o.2
  | .inr q => if q.1 ≤ 2 then o.2 else bmp o.2
def QG {S : Type} (post : Option Value → S → Prop) (B : S → State → Prop) (A : Nat → Prop) : Array Value → State → Outcome → State → Prop := fun _ st oc t => (∃ (v : Option Value) (u : S), oc = .returned v ∧ post v u ∧ B u t) ∧ va_F A st t
def mvO (ad : Nat → Nat) (v : Option Value) : Option Value := v.map (mv ad)
def vokO (σ : Sg) (v : Option Value) : Prop := ∀ w, v = some w → vok σ w
def XN (ec : Nat) : String := match ec with
  | 1 => "OldWeather$Fault"
  | 2 => "OldWeather$Broken"
  | 3 => "java/lang/ArrayIndexOutOfBoundsException"
  | _ => "java/lang/ClassCastException"
/-- what a call leaves when it comes back -/
def Qret (D : va_G) (dA : Nat → Nat) (md : Bool) (z0 : Nat) (ad : Nat → Nat) (σ : Sg) (o : Ou × Sg) : Array Value → State → Outcome → State → Prop := QG (fun (w : Option Value) (ad1 : Nat → Nat) => ∃ v, o.1 = .inl v ∧ w = mvO ad1 v ∧ vokO o.2 v ∧ ext ad ad1 σ) (fun ad1 t => HB D dA md z0 ad1 o.2 t.heap) (AA z0)
/-- what it leaves when it throws -/
def Xthr (D : va_G) (dA : Nat → Nat) (md : Bool) (z0 : Nat) (ad : Nat → Nat) (σ : Sg) (o : Ou × Sg) : String → Addr → State → State → Prop := vx_X (fun (ad1 : Nat → Nat) => ext ad ad1 σ) (fun E q ad1 t => ∃ ec a, o.1 = .inr (ec, a) ∧ E = XN ec ∧ (ec ≤ 2 → q = ad1 a ∧ a < gz o.2) ∧ HB D dA md z0 ad1 o.2 t.heap) (AA z0)
def rmF (fr lc : Nat) (σ : Sg) (o : Ou × Sg) : Room := { frames := fr, cells := cl (xt o) - cl σ, slots := gs (xt o) - gs σ, locals := lc }
abbrev rmD (d : Nat) (σ : Sg) (o : Ou × Sg) : Room := rmF (d + 20) (64 * d + 10500) σ o
/-- a method: its name, its code, how many locals, what it answers, its handlers -/
abbrev Mq : Type := MethodName × ByteArray × Nat × Option FieldType × List (Nat × Nat × Nat × Nat)
def wq (q : Mq) : Cond := match q.2.2.2.2 with
  | [] => Cond.code q.1 q.2.1 q.2.2.1 q.2.2.2.1
  | hh => Cond.codeWith q.1 q.2.1 q.2.2.1 q.2.2.2.1 hh
def wsq (q : Mq) : List Cond := wq q :: lw_all
/-- what a method owes at one start -/
def CT (l : Launch) (D : va_G) (dA : Nat → Nat) (md : Bool) (z0 : Nat) (SX : (Nat → Nat) → State → Heap → Prop) (fr lc : Nat) (q : Mq) (av : List Value) (σ : Sg) (o : Ou × Sg) : Prop :=
  (∀ v ∈ av, vok σ v) → ∀ ad : Nat → Nat, vx_Met l q.1 (wsq q) (rmF fr lc σ o) (va_Pc (av.map (mv ad)) (fun U => SB D dA z0 SX ad U ∧ HB D dA md z0 ad σ U.heap)) (Qret D dA md z0 ad σ o) (Xthr D dA md z0 ad σ o) (cl (xt o) - cl σ) (gs (xt o) - gs σ) (AA z0)
section SNC
variable {p : Program} {l : Launch} {e : Env} {R : Room} {s : State} {m : MethodId} {args : Array Value} {below : List Frame} {meth : Method} {c : Code} {cells slots : Nat} {Q : State → Prop} {D : va_G} {dA : Nat → Nat} {md : Bool} {z0 : Nat} {nL : Nat} {ad : Nat → Nat} {pc len : Nat} {L : Lo} {r : List Value} {σ : Sg} {SX : (Nat → Nat) → State → Heap → Prop} {H : Heap} {locs : List Loc} {ls : Array Slot} {st0 : List Value} {mc ms : Nat} {a : Array Value} {o : Ou × Sg}
/-- a call that has run, of any length -/
def RunG (p : Program) (l : Launch) (e : Env) (R : Room) (s : State) (m : MethodId) (args : Array Value) (below : List Frame) (meth : Method) (c : Code) (H : Heap) (locs : List Loc) (cells slots mc ms len : Nat) (g : JFrame) (rest : List Value) (Qa : State → Outcome → State → Prop) (XC : String → Addr → State → State → Prop) (free : Addr → Prop) : Prop :=
  ∀ T : State, T.heap = H → Stand p l e R s m args below meth c T locs cells slots →
    (∃ (v : Option Value) (st₀ t T' : State) (L : List Loc), st₀.heap = H ∧ Stand p l e R s m args below meth c T' (locs ++ L) (cells + mc) (slots + ms) ∧ (∀ q ∈ L, free q.base) ∧ T'.heap = t.heap ∧ T'.vm = t.vm ∧ Qa st₀ (.returned v) t ∧
      Goes p e below T g T' { g with pc := g.pc + len, stack := v.toList ++ rest }) ∨
    (∃ (q : Addr) (st₀ t T' : State) (L : List Loc) (E : String) (ce : Cell), st₀.heap = H ∧ Stand p l e R s m args below meth c T' (locs ++ L) (cells + mc) (slots + ms) ∧ (∀ z ∈ L, free z.base) ∧ T'.heap = t.heap ∧ T'.vm = t.vm ∧ XC E q st₀ t ∧ t.heap[q]? = some ce ∧ ce.vm = .none ∧ s.vm.findClass E = some ce.cls ∧
      Steps p.tables e below (T.setTop g) ((T'.setTop { g with stack := rest }).pushFrame (.throwing q)))
theorem sn_back (hr : RunG p l e R s m args below meth c H locs cells slots mc ms len (F0 m pc ls st0) (r.map (mv ad)) (Qret D dA md z0 ad σ o a) (Xthr D dA md z0 ad σ o) (AA z0)) (hS : va_S (AA z0) s.heap H locs)
    (kx : ∀ (ec x : Nat) (ad1 : Nat → Nat) (ce : Cell) (q9 : Addr) (H1 : Heap) (locs1 : List Loc), o.1 = .inr (ec, x) → (ec ≤ 2 → q9 = ad1 x ∧ x < gz o.2) → ext ad ad1 σ → HB D dA md z0 ad1 o.2 H1 → va_S (AA z0) s.heap H1 locs1 → H1[q9]? = some ce → ce.vm = .none → s.vm.findClass (XN ec) = some ce.cls → vx_W p l e R s m args below meth c H1 locs1 (cells + mc) (slots + ms) Q (F0 m pc ls (r.map (mv ad))) q9)
    (kk : ∀ (v : Option Value) (ad1 : Nat → Nat) (H1 : Heap) (locs1 : List Loc), o.1 = .inl v → vokO o.2 v → ext ad ad1 σ → HB D dA md z0 ad1 o.2 H1 → va_S (AA z0) s.heap H1 locs1 → W p l e R s m args below meth c H1 locs1 (cells + mc) (slots + ms) Q (F0 m (pc + len) ls ((mvO ad1 v).toList ++ r.map (mv ad)))) : W p l e R s m args below meth c H locs cells slots Q (F0 m pc ls st0) := by
  intro T hT X
  rcases hr T hT X with ⟨v, st₀, t, T', L, h0, X', hL, e1, e2, ⟨⟨w, u, hv, ⟨v1, hp1, hp2, hp3, hp4⟩, hb⟩, hF⟩, st⟩ | ⟨q, st₀, t, T', L, E, ce, h0, X', hL, e1, e2, ⟨u, hp, ⟨ec, x, g1, g2, g3, g4⟩, hF⟩, hce, hcv, hcl, st⟩
  · cases hv
    obtain ⟨k1, k2, k3⟩ := vx_keep h0 e1 hS (fun q _ h => h) (fun q h => h) hL hF
    subst hp2
    obtain ⟨t2, a1, b1⟩ := kk v1 u T'.heap (locs ++ L) hp1 hp3 hp4 (by rw [e1]; exact hb) k3 T' rfl X'
    exact ⟨t2, st t2 a1, b1⟩
  · obtain ⟨k1, k2, k3⟩ := vx_keep h0 e1 hS (fun q _ h => h) (fun q h => h) hL hF
    subst g2
    obtain ⟨t2, a1, b1⟩ := kx ec x u ce q T'.heap (locs ++ L) g1 g3 hp (by rw [e1]; exact g4) k3 (by rw [e1]; exact hce) hcv hcl T' rfl X'
    exact ⟨t2, st.trans a1, b1⟩
end SNC
