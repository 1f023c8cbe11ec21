/-! CONTRACTS OVER THE GHOST HEAP: from a body's walk to the contract, and calls by it (the proofs follow vx_back, vx_callV .. of the kit's rows for exceptions) -/
abbrev zRm (fr lo : Nat) (g : zH) : Room := { frames := fr, cells := g.2.1, slots := g.2.2.1, locals := lo }
abbrev zMF (Γ : zG) (l : Launch) (y : MethodName) (cw : Cond) (fr lo : Nat) (av : List Value) (g : zH) (res : Option Value ⊕ Nat) (gf : zH) : Prop :=
  MetFree l y (headSpec [cw] (zRm fr lo g)) (fun a U => a = av.toArray ∧ Γ.1.WarmedH U.vm ∧ zR Γ g U.heap) (fun _ _ _ _ _ => True) (fun _ st o t => zPost Γ g gf res g.2.1 g.2.2.1 st o t)
section ZBK
variable {Γ : zG} {l : Launch} {R : Room} {p : Program} {e : Env} {below : List Frame} {s : State} {sargs : Array Value} {y : MethodName} {len W9 maxL fr lo : Nat} {cw : Cond} {av : List Value} {g gf : zH} {res : Option Value ⊕ Nat}
theorem z_back (hM : zMF Γ l y cw fr lo av g res gf) (hframes : fr + 1 ≤ R.frames) (hlocals : W9 + (maxL + 11 + lo) ≤ R.locals) (hw : Γ.1.WarmedH s.vm)
    (hws : ∀ (a' : Array Value) (U : State), s.WarmedH U.vm → cw.before a' U = true) (hinit : ∀ (a' : Array Value) (U : State), s.WarmedH U.vm → (Cond.initialized y.cls).before a' U = true)
    (hcode : ∀ (U : State) (mk : MethodId), s.WarmedH U.vm → U.methodNamed? y = some mk → ∃ methY cY, U.vm.method? mk = some methY ∧ methY.code = some cY ∧ cY.maxLocals = maxL) :
    vx_Back l R p e below s sargs y len W9 (fun A a => a = av.toArray ∧ zR Γ g A.U.heap ∧ A.cells + g.2.1 ≤ R.cells ∧ A.slots + g.2.2.1 ≤ R.slots)
      (fun A a v B => res = .inl v ∧ zR Γ gf B.U.heap ∧ (∃ L, B.locs = A.locs ++ L ∧ ∀ q ∈ L, Γ.1.heap.size ≤ q.base) ∧ B.U.heap.size + gf.2.1 ≤ A.U.heap.size + g.2.1 ∧ zsz B.U.heap + gf.2.2.1 ≤ zsz A.U.heap + g.2.2.1)
      (fun A a q B => res = .inr q ∧ zR Γ gf B.U.heap ∧ (∃ L, B.locs = A.locs ++ L ∧ ∀ q ∈ L, Γ.1.heap.size ≤ q.base) ∧ B.U.heap.size + gf.2.1 ≤ A.U.heap.size + g.2.1 ∧ zsz B.U.heap + gf.2.2.1 ≤ zsz A.U.heap + g.2.2.1) := by
  intro m meth c A g0 ig mk a X hg hsize hdg hW hn hp
  obtain ⟨hav, hR0, hcl, hsl⟩ := hp
  obtain ⟨U, Ls, c0, s0⟩ := A
  dsimp only [Pt.U, Pt.locs, Pt.cells, Pt.slots] at hcl hsl hR0 X hn ⊢
  have h1 : (headSpec [cw] (zRm fr lo g)).pre.before a U = true := atoms_intro fun w hw' => by rw [List.mem_singleton.mp hw']; exact hws _ _ X.warmed
  have h3 : (Cond.initialized y.cls).before a U = true := hinit _ _ X.warmed
  have hPc : a = av.toArray ∧ Γ.1.WarmedH (U.calling g0 mk a).vm ∧ zR Γ g (U.calling g0 mk a).heap := ⟨hav, State.WarmedH.trans hw X.warmed, hR0⟩
  obtain ⟨methY, cY, hmY, hcY, hlY⟩ := hcode U mk X.warmed hn
  obtain ⟨kY, hkY, -⟩ := className_of_methodNamed hn
  have hinitY : kY.init = .initialized := Cond.initialized_spec (findClass_of_methodNamed hn) hkY h3
  have h : At U g0.method c below := by rw [hg]; exact X.here
  have happ : (headSpec [cw] (zRm fr lo g)).appliesLoose y e.platform (U.calling g0 mk a) = true :=
    Spec.appliesLoose_calling (g := g0) h hdg hn hkY hinitY
      (X.room_calling (g := g0) (R' := (headSpec [cw] (zRm fr lo g)).room) hsize hmY hcY hframes (by rw [hlY]; show _ + (maxL + 11) + lo ≤ _; omega) hcl hsl) h1
  obtain ⟨mid, hmid⟩ := h.above
  have hfr : (U.setTop g0).frames = (.java g0 :: mid) ++ below := by rw [State.frames_setTop' g0 h.top, hmid]; rfl
  obtain ⟨o, s₂, hsteps, -, hend, hq⟩ := Steps.callFree hM p X.admits X.cas X.clock (acts := []) hfr happ hPc trivial
  have hq' : zPost Γ g gf res g.2.1 g.2.2.1 (U.calling g0 mk a) o s₂ := hq
  rw [State.frames_setTop' g0 h.top] at hend
  obtain ⟨g₀, hg0⟩ := Option.isSome_iff_exists.mp h.top
  obtain ⟨r, hr⟩ := State.topJava?_eq_some.mp hg0
  have hr' : (({ U with heap := s₂.heap, slotsUsed := s₂.slotsUsed } : State).setVm s₂.vm).frames = .java g₀ :: r := hr
  obtain ⟨ho, hR2, hW₂, ⟨L, ⟨e2, q2, q3, q4, q5, q6⟩, hL⟩, hb1, hb2⟩ := hq'
  have e3 : s₂ = ({ (U.calling g0 mk a).setFrames s₂.frames with heap := s₂.heap, slotsUsed := s₂.slotsUsed } : State).setVm s₂.vm := by
    have : s₂ = ({ s₂ with vm := (U.calling g0 mk a).vm } : State).setVm s₂.vm := rfl
    rw [e2] at this
    exact this
  have hW' : U.WarmedH s₂.vm := hW₂
  have hsame : U.sameButNew ({ U with heap := s₂.heap, slotsUsed := s₂.slotsUsed } : State) L g.2.1 g.2.2.1 := by
    refine ⟨?_, q2, q3, q4, q5, q6⟩
    obtain ⟨t, ht, -⟩ := State.frames_cons hr
    show ({ U with heap := s₂.heap, slotsUsed := s₂.slotsUsed } : State) = { U.setFrames U.frames with heap := s₂.heap, slotsUsed := s₂.slotsUsed }
    rw [State.setFrames_self ht]
  rcases res with v | q
  · have ho : o = .returned v := ho
    subst ho
    obtain ⟨c₂, i₂, len₂, hc₂, hd₂, hf₂⟩ := hend
    have hcc : c₂ = c := by
      have h1 : s₂.code? g0.method = U.code? g0.method := by
        rw [State.code?_eq, State.code?_eq, hW'.alike.method?]
      exact Option.some.inj (hc₂.symm.trans (h1.trans h.code))
    subst hcc
    have hlen : len₂ = len := by rw [hdg] at hd₂; cases hd₂; rfl
    subst hlen
    have hs₂ : s₂ = (({ U with heap := s₂.heap, slotsUsed := s₂.slotsUsed } : State).setVm s₂.vm).setTop { g0 with pc := g0.pc + len₂, stack := v.toList ++ g0.stack } := by
      refine e3.trans ?_
      rw [hf₂, State.calling_eq h.top, State.setFrames_setFrames, State.setTop_of_frames _ hr', hr]
      rfl
    subst hg
    refine Or.inl ⟨v, ⟨(({ U with heap := s₂.heap, slotsUsed := s₂.slotsUsed } : State).setVm s₂.vm), Ls ++ L, c0 + g.2.1, s0 + g.2.2.1⟩,
      ⟨X.admits, X.cas, X.clock, X.frames, X.room, X.hears, X.method, X.code, (X.here.setHeapUsed s₂.heap s₂.slotsUsed).setVm hW'.alike, X.tail, State.WarmedH.trans X.warmed hW', X.limits, X.bytes, X.same.trans (hsame.setVm s.vm)⟩,
      ⟨rfl, hR2, ⟨L, rfl, hL⟩, hb1, hb2⟩, ?_⟩
    show Steps p.tables e below _ ((({ U with heap := s₂.heap, slotsUsed := s₂.slotsUsed } : State).setVm s₂.vm).setTop { g0 with pc := g0.pc + len₂, stack := v.toList ++ g0.stack })
    rw [← hs₂]
    exact hsteps
  · have ho : o = .threw q := ho
    subst ho
    have hf₂ : s₂.frames = .throwing q :: .java g0 :: U.frames.tail := hend
    have hs₂ : s₂ = ((({ U with heap := s₂.heap, slotsUsed := s₂.slotsUsed } : State).setVm s₂.vm).setTop g0).pushFrame (.throwing q) := by
      refine e3.trans ?_
      rw [hf₂, State.calling_eq h.top, State.setFrames_setFrames, State.pushFrame, State.frames_setTop _ hr', State.setTop_of_frames _ hr', State.setFrames_setFrames, hr]
      rfl
    subst hg
    refine Or.inr ⟨q, ⟨(({ U with heap := s₂.heap, slotsUsed := s₂.slotsUsed } : State).setVm s₂.vm), Ls ++ L, c0 + g.2.1, s0 + g.2.2.1⟩,
      ⟨X.admits, X.cas, X.clock, X.frames, X.room, X.hears, X.method, X.code, (X.here.setHeapUsed s₂.heap s₂.slotsUsed).setVm hW'.alike, X.tail, State.WarmedH.trans X.warmed hW', X.limits, X.bytes, X.same.trans (hsame.setVm s.vm)⟩,
      ⟨rfl, hR2, ⟨L, rfl, hL⟩, hb1, hb2⟩, ?_⟩
    show Steps p.tables e below _ (((({ U with heap := s₂.heap, slotsUsed := s₂.slotsUsed } : State).setVm s₂.vm).setTop g0).pushFrame (.throwing q))
    rw [← hs₂]
    exact hsteps
end ZBK
section ZCTS
variable {Γ : zG} {l : Launch} {y : MethodName} {cc : ByteArray} {maxL fr lo : Nat} {ret : Option FieldType} {av : List Value} {g gf : zH} {res : Option Value ⊕ Nat}
/-- the contract out of the body's walk: a method without handlers -/
theorem z_ct (hG : zOK Γ l) (hy : plainName y.cls = true) (hc : Cond.code y cc maxL ret ∈ lw_all) (hi : Cond.initialized y.cls ∈ lw_all)
    (body : ∀ p e s m below meth c R, R = zRm fr lo g → zX Γ p l s m meth c y cc maxL ret [] → zR Γ g s.heap → W p l e R s m av.toArray below meth c s.heap [] 0 0 (zQ Γ below s R res g gf) (entryFrame m av.toArray maxL)) :
    zCT Γ l y fr (maxL + 11 + lo) av g res gf := by
  have hM : zMF Γ l y (Cond.code y cc maxL ret) fr lo av g res gf := by
    refine MetFree.of_bodyS (code := cc) (maxLocals := maxL) (ret := ret) hy ?_ ?_
    · intro args s m h hn
      obtain ⟨meth, c, h1, h2, h3, h4, h5, h6, -, -⟩ := Cond.code_spec hn (atoms_spec (ws := [Cond.code y cc maxL ret]) h _ List.mem_cons_self)
      exact ⟨meth, c, h1, h2, h3, h4, h5, h6⟩
    · intro p e s m args below meth c s₁ B hml hP _
      obtain ⟨rfl, hw, hR⟩ := hP
      have hh0 : s₁.heap = s.heap := by rw [B.state]; rfl
      have ht : c.exceptionTable.toList = tableOf [] := by
        obtain ⟨meth9, c9, h1, h2, -, -, -, -, h7, -⟩ := Cond.code_spec B.named (atoms_spec (ws := [Cond.code y cc maxL ret]) B.pre _ List.mem_cons_self)
        cases Option.some.inj (h1.symm.trans B.method)
        cases Option.some.inj (h2.symm.trans (Stand.of_body B).code)
        rw [Array.isEmpty_iff.mp h7]
        rfl
      obtain ⟨t, a1, o, b1, b2, b3⟩ := body p e s m below meth c _ rfl ⟨hG, hw, B.exec, B.bytes, hml, findClass_of_methodNamed B.named, B.returns, B.notSynchronized, ht, (name_of_methodNamed B.named B.method).1, B.named, B.method, hR.2.2.1⟩ hR s₁ hh0 (Stand.of_body B)
      exact ⟨t, o, a1, b1, b2, b3⟩
  refine ⟨fun s hw => ?_, fun R p e below s sargs len W9 h1 h2 hw => z_back (maxL := maxL) hM h1 h2 hw (fun a' U hW => z_w hG (State.WarmedH.trans hw hW) hc) (fun a' U hW => z_w hG (State.WarmedH.trans hw hW) hi) (fun U mk hW hn => ?_)⟩
  · obtain ⟨mk, hn⟩ := Cond.code_named (z_w (args := #[]) hG hw hc)
    obtain ⟨mt, c, h1, -, -, -, -, -, -, hs⟩ := Cond.code_spec hn (z_w (args := #[]) hG hw hc)
    exact ⟨mk, mt, hn, h1, hs⟩
  · obtain ⟨methY, cY, hmY, hcY, -, hlY, -⟩ := Cond.code_spec hn (z_w (args := #[]) hG (State.WarmedH.trans hw hW) hc)
    exact ⟨methY, cY, hmY, hcY, hlY⟩
/-- the contract out of the body's walk: a method with handlers -/
theorem z_ctW {hh : List (Nat × Nat × Nat × Nat)} (hG : zOK Γ l) (hy : plainName y.cls = true) (hc : Cond.codeWith y cc maxL ret hh ∈ lw_all) (hi : Cond.initialized y.cls ∈ lw_all)
    (body : ∀ p e s m below meth c R, R = zRm fr lo g → zX Γ p l s m meth c y cc maxL ret hh → zR Γ g s.heap → W p l e R s m av.toArray below meth c s.heap [] 0 0 (zQ Γ below s R res g gf) (entryFrame m av.toArray maxL)) :
    zCT Γ l y fr (maxL + 11 + lo) av g res gf := by
  have hM : zMF Γ l y (Cond.codeWith y cc maxL ret hh) fr lo av g res gf := by
    refine MetFree.of_bodyS (code := cc) (maxLocals := maxL) (ret := ret) hy ?_ ?_
    · intro args s m h hn
      obtain ⟨m9, meth, c, hn9, h1, h2, h3, h4, -, h5, h6, -⟩ := Cond.codeWith_spec (atoms_spec (ws := [Cond.codeWith y cc maxL ret hh]) h _ List.mem_cons_self)
      cases Option.some.inj (hn9.symm.trans hn)
      exact ⟨meth, c, h1, h2, h3, h4, h5, h6⟩
    · intro p e s m args below meth c s₁ B hml hP _
      obtain ⟨rfl, hw, hR⟩ := hP
      have hh0 : s₁.heap = s.heap := by rw [B.state]; rfl
      have ht : c.exceptionTable.toList = tableOf hh := vx_table (x := y) B (atoms_spec (ws := [Cond.codeWith y cc maxL ret hh]) B.pre _ List.mem_cons_self)
      obtain ⟨t, a1, o, b1, b2, b3⟩ := body p e s m below meth c _ rfl ⟨hG, hw, B.exec, B.bytes, hml, findClass_of_methodNamed B.named, B.returns, B.notSynchronized, ht, (name_of_methodNamed B.named B.method).1, B.named, B.method, hR.2.2.1⟩ hR s₁ hh0 (Stand.of_body B)
      exact ⟨t, o, a1, b1, b2, b3⟩
  refine ⟨fun s hw => ?_, fun R p e below s sargs len W9 h1 h2 hw => z_back (maxL := maxL) hM h1 h2 hw (fun a' U hW => z_w hG (State.WarmedH.trans hw hW) hc) (fun a' U hW => z_w hG (State.WarmedH.trans hw hW) hi) (fun U mk hW hn => ?_)⟩
  · obtain ⟨mk, mt, c, hn, h1, -, -, -, -, -, -, hs⟩ := Cond.codeWith_spec (z_w (args := #[]) hG hw hc)
    exact ⟨mk, mt, hn, h1, hs⟩
  · obtain ⟨m9, methY, cY, hn9, hmY, hcY, -, hlY, -⟩ := Cond.codeWith_spec (z_w (args := #[]) hG (State.WarmedH.trans hw hW) hc)
    cases Option.some.inj (hn9.symm.trans hn)
    exact ⟨methY, cY, hmY, hcY, hlY⟩
end ZCTS
/-- a call has come back: with a value, or with something thrown over the frame -/
def zRun (Γ : zG) (p : Program) (l : Launch) (e : Env) (R : Room) (s : State) (m : MethodId) (args : Array Value) (below : List Frame) (meth : Method) (c : Code) (H : Heap) (locs : List Loc) (cells slots len : Nat) (g0 : JFrame) (rest : List Value) (g : zH) (res : Option Value ⊕ Nat) (gf : zH) : Prop :=
  ∀ T : State, T.heap = H → Stand p l e R s m args below meth c T locs cells slots →
    (∃ (v : Option Value) (T' : State) (L : List Loc) (k n : Nat), res = .inl v ∧ Stand p l e R s m args below meth c T' (locs ++ L) k n ∧ (∀ q ∈ L, Γ.1.heap.size ≤ q.base) ∧ zR Γ gf T'.heap ∧ T'.heap.size + gf.2.1 ≤ H.size + g.2.1 ∧ zsz T'.heap + gf.2.2.1 ≤ zsz H + g.2.2.1 ∧
      ∀ target, Steps p.tables e below (T'.setTop { g0 with pc := g0.pc + len, stack := v.toList ++ rest }) target → Steps p.tables e below (T.setTop g0) target) ∨
    (∃ (q : Nat) (T' : State) (L : List Loc) (k n : Nat), res = .inr q ∧ Stand p l e R s m args below meth c T' (locs ++ L) k n ∧ (∀ q ∈ L, Γ.1.heap.size ≤ q.base) ∧ zR Γ gf T'.heap ∧ T'.heap.size + gf.2.1 ≤ H.size + g.2.1 ∧ zsz T'.heap + gf.2.2.1 ≤ zsz H + g.2.2.1 ∧
      Steps p.tables e below (T.setTop g0) ((T'.setTop { g0 with stack := rest }).pushFrame (.throwing q)))
section ZGO
variable {Γ : zG} {p : Program} {l : Launch} {e : Env} {R : Room} {s : State} {m : MethodId} {args : Array Value} {below : List Frame} {meth : Method} {c : Code} {H : Heap} {locs : List Loc} {cells slots len pc : Nat} {ls : Array Slot} {st0 rest : List Value} {g gf : zH} {Q : State → Prop}
theorem z_after {T' : State} {L : List Loc} {k n : Nat} (hI : zI Γ R s g H locs cells slots) (X : Stand p l e R s m args below meth c T' (locs ++ L) k n) (hL : ∀ q ∈ L, Γ.1.heap.size ≤ q.base) (hR : zR Γ gf T'.heap) (h1 : T'.heap.size + gf.2.1 ≤ H.size + g.2.1) (h2 : zsz T'.heap + gf.2.2.1 ≤ zsz H + g.2.2.1) :
    ∃ k1 n1, Stand p l e R s m args below meth c T' (locs ++ L) k1 n1 ∧ zI Γ R s gf T'.heap (locs ++ L) k1 n1 := by
  obtain ⟨i1, i2, i3, i4, i5, i6⟩ := hI
  have hs1 : s.heap.size ≤ T'.heap.size := X.same.2.1
  have hs2 := (z_used X).2
  refine ⟨T'.heap.size - s.heap.size, zsz T'.heap - zsz s.heap, z_tight X (by omega) (by omega), hR, fun q hq => ?_, by omega, by omega, by omega, by omega⟩
  rcases List.mem_append.mp hq with h | h
  · exact i2 q h
  · exact hL q h
theorem z_go {v : Option Value} (hr : zRun Γ p l e R s m args below meth c H locs cells slots len (F0 m pc ls st0) rest g (.inl v) gf) (hI : zI Γ R s g H locs cells slots)
    (kk : ∀ (H1 : Heap) (locs1 : List Loc) (c1 n1 : Nat), zI Γ R s gf H1 locs1 c1 n1 → W p l e R s m args below meth c H1 locs1 c1 n1 Q (F0 m (pc + len) ls (v.toList ++ rest))) : W p l e R s m args below meth c H locs cells slots Q (F0 m pc ls st0) := by
  intro T hT X
  rcases hr T hT X with ⟨v', T', L, k, n, hv, X', hL, hR, b1, b2, st⟩ | ⟨q, T', L, k, n, hv, -⟩
  · cases hv
    obtain ⟨k1, n1, X2, hI2⟩ := z_after hI X' hL hR b1 b2
    obtain ⟨t, a1, a2⟩ := kk T'.heap (locs ++ L) k1 n1 hI2 T' rfl X2
    exact ⟨t, st t a1, a2⟩
  · cases hv
theorem z_goi {r : Int32} (hr : zRun Γ p l e R s m args below meth c H locs cells slots len (F0 m pc ls st0) rest g (.inl (some (.int r))) gf) (hI : zI Γ R s g H locs cells slots)
    (kk : ∀ (H1 : Heap) (locs1 : List Loc) (c1 n1 : Nat), zI Γ R s gf H1 locs1 c1 n1 → W p l e R s m args below meth c H1 locs1 c1 n1 Q (F0 m (pc + len) ls (.int r :: rest))) : W p l e R s m args below meth c H locs cells slots Q (F0 m pc ls st0) := z_go hr hI kk
theorem z_god {r : UInt64} (hr : zRun Γ p l e R s m args below meth c H locs cells slots len (F0 m pc ls st0) rest g (.inl (some (.double r))) gf) (hI : zI Γ R s g H locs cells slots)
    (kk : ∀ (H1 : Heap) (locs1 : List Loc) (c1 n1 : Nat), zI Γ R s gf H1 locs1 c1 n1 → W p l e R s m args below meth c H1 locs1 c1 n1 Q (F0 m (pc + len) ls (.double r :: rest))) : W p l e R s m args below meth c H locs cells slots Q (F0 m pc ls st0) := z_go hr hI kk
theorem z_gor {r : Option Nat} (hr : zRun Γ p l e R s m args below meth c H locs cells slots len (F0 m pc ls st0) rest g (.inl (some (va_rf r))) gf) (hI : zI Γ R s g H locs cells slots)
    (kk : ∀ (H1 : Heap) (locs1 : List Loc) (c1 n1 : Nat), zI Γ R s gf H1 locs1 c1 n1 → W p l e R s m args below meth c H1 locs1 c1 n1 Q (F0 m (pc + len) ls (va_rf r :: rest))) : W p l e R s m args below meth c H locs cells slots Q (F0 m pc ls st0) := z_go hr hI kk
theorem z_gov (hr : zRun Γ p l e R s m args below meth c H locs cells slots len (F0 m pc ls st0) rest g (.inl none) gf) (hI : zI Γ R s g H locs cells slots)
    (kk : ∀ (H1 : Heap) (locs1 : List Loc) (c1 n1 : Nat), zI Γ R s gf H1 locs1 c1 n1 → W p l e R s m args below meth c H1 locs1 c1 n1 Q (F0 m (pc + len) ls rest)) : W p l e R s m args below meth c H locs cells slots Q (F0 m pc ls st0) := z_go hr hI kk
theorem z_gox {q : Nat} (hr : zRun Γ p l e R s m args below meth c H locs cells slots len (F0 m pc ls st0) rest g (.inr q) gf) (hI : zI Γ R s g H locs cells slots)
    (kk : ∀ (H1 : Heap) (locs1 : List Loc) (c1 n1 : Nat), zI Γ R s gf H1 locs1 c1 n1 → vx_W p l e R s m args below meth c H1 locs1 c1 n1 Q (F0 m pc ls rest) q) : W p l e R s m args below meth c H locs cells slots Q (F0 m pc ls st0) := by
  intro T hT X
  rcases hr T hT X with ⟨v', T', L, k, n, hv, -⟩ | ⟨q', T', L, k, n, hv, X', hL, hR, b1, b2, st⟩
  · cases hv
  · cases hv
    obtain ⟨k1, n1, X2, hI2⟩ := z_after hI X' hL hR b1 b2
    obtain ⟨t, a1, a2⟩ := kk T'.heap (locs ++ L) k1 n1 hI2 T' rfl X2
    exact ⟨t, st.trans a1, a2⟩
/-- not caught here, no row of the table covers the place: it goes on to the caller -/
theorem z_out {y : MethodName} {cc : ByteArray} {nL : Nat} {ret : Option FieldType} {hh : List (Nat × Nat × Nat × Nat)} {g0 : zH} {q : Nat} (X0 : zX Γ p l s m meth c y cc nL ret hh) (hI : zI Γ R s g H locs cells slots) (hout : ∀ x ∈ tableOf hh, covers x pc = false) :
    vx_W p l e R s m args below meth c H locs cells slots (zQ Γ below s R (.inr q) g0 g) (F0 m pc ls rest) q := by
  intro T hT X
  obtain ⟨i1, i2, i3, i4, i5, i6⟩ := hI
  obtain ⟨hG, hw, hx, hb, hml, hown, hr, hlocks, ht, hnm, hn, hme⟩ := X0
  obtain ⟨st1, hrun, hend, hW, hsm⟩ := X.leaveThrown q (g := F0 m pc ls rest) rfl rfl rfl (by rw [ht]; exact hout) hlocks
  refine ⟨_, st1, .threw q, hrun, hend, rfl, ?_, hW, ⟨locs, hsm.mono (by omega) (by omega), i2⟩, ?_, ?_⟩
  · show zR Γ g T.heap
    rw [hT]; exact i1
  · show T.heap.size + _ ≤ _
    rw [hT]; exact i5
  · show zsz T.heap + _ ≤ _
    rw [hT]; exact i6
end ZGO
section ZCALL
variable {Γ : zG} {p : Program} {l : Launch} {e : Env} {R : Room} {s : State} {m : MethodId} {args : Array Value} {below : List Frame} {meth : Method} {c : Code} {H : Heap} {locs : List Loc} {cells slots pc : Nat} {ls : Array Slot} {st0 rest : List Value} {g gf : zH} {res : Option Value ⊕ Nat}
variable {y0 y : MethodName} {cc : ByteArray} {nL fr lc index : Nat} {ret : Option FieldType} {hh : List (Nat × Nat × Nat × Nat)} {av : List Value}
/-- from a point of a walk: what a callee's start asks -/
theorem z_pre (hI : zI Γ R s g H locs cells slots) : cells + g.2.1 ≤ R.cells ∧ slots + g.2.2.1 ≤ R.slots := by
  obtain ⟨i1, i2, i3, i4, i5, i6⟩ := hI
  omega
abbrev zBk (Γ : zG) (l : Launch) (R : Room) (p : Program) (e : Env) (below : List Frame) (s : State) (args : Array Value) (y : MethodName) (len : Nat) (av : List Value) (g : zH) (res : Option Value ⊕ Nat) (gf : zH) : Prop :=
  vx_Back l R p e below s args y len 8 (fun A a => a = av.toArray ∧ zR Γ g A.U.heap ∧ A.cells + g.2.1 ≤ R.cells ∧ A.slots + g.2.2.1 ≤ R.slots)
      (fun A a v B => res = .inl v ∧ zR Γ gf B.U.heap ∧ (∃ L, B.locs = A.locs ++ L ∧ ∀ q ∈ L, Γ.1.heap.size ≤ q.base) ∧ B.U.heap.size + gf.2.1 ≤ A.U.heap.size + g.2.1 ∧ zsz B.U.heap + gf.2.2.1 ≤ zsz A.U.heap + g.2.2.1)
      (fun A a q B => res = .inr q ∧ zR Γ gf B.U.heap ∧ (∃ L, B.locs = A.locs ++ L ∧ ∀ q ∈ L, Γ.1.heap.size ≤ q.base) ∧ B.U.heap.size + gf.2.1 ≤ A.U.heap.size + g.2.1 ∧ zsz B.U.heap + gf.2.2.1 ≤ zsz A.U.heap + g.2.2.1)
/-- the machine's step into the callee, then the callee's contract -/
theorem z_into {ig : Instr} {len : Nat} (hc : zBk Γ l R p e below s args y len av g res gf) (hdg : decode c.code pc = .ok (ig, len)) (hsz : ls.size = c.maxLocals) (hW : (rest.map fun v => v.category).sum ≤ 8) (hI : zI Γ R s g H locs cells slots)
    (hst : ∀ T : State, T.heap = H → Stand p l e R s m args below meth c T locs cells slots → ∃ (vm₁ : Vm) (mk : MethodId), Stand p l e R s m args below meth c (T.setVm vm₁) locs cells slots ∧ (T.setVm vm₁).methodNamed? y = some mk ∧
      ∀ target, Steps p.tables e below (doInvoke e ((T.setVm vm₁).setTop { F0 m pc ls st0 with stack := rest }) [] mk av.toArray).1 target → Steps p.tables e below (T.setTop (F0 m pc ls st0)) target) :
    zRun Γ p l e R s m args below meth c H locs cells slots len (F0 m pc ls st0) rest g res gf := by
  intro T hT X
  obtain ⟨vm₁, mk, X₁, hn, hstep⟩ := hst T hT X
  obtain ⟨p1, p2⟩ := z_pre hI
  rcases hc m meth c ⟨T.setVm vm₁, locs, cells, slots⟩ { F0 m pc ls st0 with stack := rest } ig mk av.toArray X₁ rfl hsz hdg (by show 2 * 0 + (rest.map fun v => v.category).sum ≤ 8; omega) hn ⟨rfl, (by show zR Γ g T.heap; rw [hT]; exact hI.1), p1, p2⟩ with ⟨v, ⟨U', l2, c2, s2⟩, X', ⟨hv, hR, ⟨L, h1, hL⟩, b1, b2⟩, hsteps⟩ | ⟨q, ⟨U', l2, c2, s2⟩, X', ⟨hv, hR, ⟨L, h1, hL⟩, b1, b2⟩, hsteps⟩
  · dsimp only [Pt.U, Pt.locs, Pt.cells, Pt.slots] at X' h1 hR b1 b2
    subst h1
    refine Or.inl ⟨v, U', L, c2, s2, hv, X', hL, hR, ?_, ?_, fun target h => hstep _ (hsteps.trans h)⟩
    · rw [← hT]; exact b1
    · rw [← hT]; exact b2
  · dsimp only [Pt.U, Pt.locs, Pt.cells, Pt.slots] at X' h1 hR b1 b2
    subst h1
    refine Or.inr ⟨q, U', L, c2, s2, hv, X', hL, hR, ?_, ?_, hstep _ hsteps⟩
    · rw [← hT]; exact b1
    · rw [← hT]; exact b2
abbrev zMH (y : MethodName) : Prop := y.cls ≠ "java/lang/invoke/MethodHandle" ∧ y.cls ≠ "java/lang/invoke/VarHandle"
theorem z_len {y : MethodName} {n : Nat} (h : (parseMethodDescriptor y.desc).map (fun d => d.parameters.length) = some n) {sig : ClassFile.MethodDescriptor} (hs : parseMethodDescriptor y.desc = some sig) : n = sig.parameters.length := by
  rw [hs] at h
  exact (Option.some.inj h).symm
/-- a static method -/
theorem z_callS (X0 : zX Γ p l s m meth c y0 cc nL ret hh) (hI : zI Γ R s g H locs cells slots) (hC : zCT Γ l y fr lc av g res gf) (hl : Cond.methodLink y0.cls index y ∈ lw_all) (hst : Cond.static y ∈ lw_all) (hi : Cond.initialized y.cls ∈ lw_all)
    (hd : zMH y ∧ (parseMethodDescriptor y.desc).map (fun d => d.parameters.length) = some av.length) (hR : fr + 1 ≤ R.frames ∧ 8 + lc ≤ R.locals) (hsz : ls.size = nL) (hW : (rest.map fun v => v.category).sum ≤ 8) (hstk : st0 = av.reverse ++ rest) (hdg : decode cc pc = .ok (.invokestatic index, 3)) :
    zRun Γ p l e R s m args below meth c H locs cells slots 3 (F0 m pc ls st0) rest g res gf := by
  obtain ⟨hG, hw, hx, hb, hml, hown, hr, hlocks, ht, hnm, hn, hme⟩ := X0
  have hdg' : decode c.code pc = .ok (.invokestatic index, 3) := by rw [hb]; exact hdg
  refine z_into (hC.2 R p e below s args 3 8 hR.1 hR.2 hw) hdg' (hsz.trans hml.symm) hW hI fun T hT X => ?_
  obtain ⟨mk, mt, hnamed, hmt, hsig⟩ := hC.1 s hw
  have hstatic : mt.isStatic = true := Cond.static_spec hnamed hmt (z_w (args := args) hG hw hst)
  obtain ⟨kP, hkP, -⟩ := className_of_methodNamed hnamed
  have hinitP : kP.init = .initialized := Cond.initialized_spec (findClass_of_methodNamed hnamed) hkP (z_w (args := args) hG hw hi)
  obtain ⟨vm₁, X₁, hstep₁⟩ := X.invokestatic hx hown (z_w hG hw hl) hnamed hmt hstatic hkP hinitP hd.1 (g := F0 m pc ls st0) rfl (argsL := av) (rest := rest) (z_len hd.2 hsig) hstk hdg'
  exact ⟨vm₁, mk, X₁, X₁.named hnamed, fun target h => hstep₁ _ fun acts => by rw [doInvoke_state]; exact h⟩
/-- a static method of a nest mate -/
theorem z_callSN {host : String} (X0 : zX Γ p l s m meth c y0 cc nL ret hh) (hI : zI Γ R s g H locs cells slots) (hC : zCT Γ l y fr lc av g res gf) (hl : Cond.methodLinkNest y0.cls index y host ∈ lw_tbl) (hst : Cond.static y ∈ lw_all) (hi : Cond.initialized y.cls ∈ lw_all)
    (hd : zMH y ∧ (parseMethodDescriptor y.desc).map (fun d => d.parameters.length) = some av.length) (hR : fr + 1 ≤ R.frames ∧ 8 + lc ≤ R.locals) (hsz : ls.size = nL) (hW : (rest.map fun v => v.category).sum ≤ 8) (hstk : st0 = av.reverse ++ rest) (hdg : decode cc pc = .ok (.invokestatic index, 3)) :
    zRun Γ p l e R s m args below meth c H locs cells slots 3 (F0 m pc ls st0) rest g res gf := by
  obtain ⟨hG, hw, hx, hb, hml, hown, hr, hlocks, ht, hnm, hn, hme⟩ := X0
  have hdg' : decode c.code pc = .ok (.invokestatic index, 3) := by rw [hb]; exact hdg
  refine z_into (hC.2 R p e below s args 3 8 hR.1 hR.2 hw) hdg' (hsz.trans hml.symm) hW hI fun T hT X => ?_
  obtain ⟨mk, mt, hnamed, hmt, hsig⟩ := hC.1 s hw
  have hstatic : mt.isStatic = true := Cond.static_spec hnamed hmt (z_w (args := args) hG hw hst)
  obtain ⟨kP, hkP, -⟩ := className_of_methodNamed hnamed
  have hinitP : kP.init = .initialized := Cond.initialized_spec (findClass_of_methodNamed hnamed) hkP (z_w (args := args) hG hw hi)
  obtain ⟨vm₁, X₁, hstep₁⟩ := X.invokestaticNest hx hown (z_wM hG hw hl) hnamed hmt hstatic hkP hinitP hd.1 (g := F0 m pc ls st0) rfl (argsL := av) (rest := rest) (z_len hd.2 hsig) hstk hdg'
  exact ⟨vm₁, mk, X₁, X₁.named hnamed, fun target h => hstep₁ _ fun acts => by rw [doInvoke_state]; exact h⟩
/-- the object at a, of the class of that number -/
def zob (g : zH) (a ci : Nat) : Prop := ∃ fs, g.2.2.2.1 a = some (.inr (.inl (ci, fs)))
theorem z_recv {C : String} {T0 : u_T} {N ci a : Nat} (hG : zOK Γ l) (hw : Γ.1.WarmedH s.vm) (hI : zI Γ R s g H locs cells slots) (hc : zcl[ci]? = some (C, T0, N)) (ho : zob g a ci) : ∃ cell : Cell, H[a]? = some cell ∧ cell.vm.isStatics = false ∧ s.vm.findClass C = some cell.cls ∧ ∃ k : Class, s.vm.classes[cell.cls]? = some k := by
  obtain ⟨fs, hf⟩ := ho
  obtain ⟨r, h1, cell, g1, g2, g3, -⟩ := (hI.1.2.2.2.1 a _ hf).2.1
  have hr : r = (C, T0, N) := Option.some.inj (h1.symm.trans hc)
  subst hr
  have hk := (z_K hG hw).1 ci _ hc
  obtain ⟨kC, hkC, -⟩ := hk.2.2
  exact ⟨cell, g1, by rw [g3]; rfl, by rw [g2]; exact hk.2.1, kC, by rw [g2]; exact hkC⟩
/-- a method by its receiver's class -/
theorem z_callV {C : String} {T0 : u_T} {N ci a : Nat} {as : List Value} (X0 : zX Γ p l s m meth c y0 cc nL ret hh) (hI : zI Γ R s g H locs cells slots) (hC : zCT Γ l y fr lc (.ref a :: as) g res gf) (hc : zcl[ci]? = some (C, T0, N)) (ho : zob g a ci) (hl : Cond.methodLink y0.cls index y ∈ lw_all) (hin : Cond.instanceMethod y ∈ lw_all) (hse : Cond.selects C y y ∈ lw_all)
    (hd : zMH y ∧ (parseMethodDescriptor y.desc).map (fun d => d.parameters.length) = some as.length) (hR : fr + 1 ≤ R.frames ∧ 8 + lc ≤ R.locals) (hsz : ls.size = nL) (hW : (rest.map fun v => v.category).sum ≤ 8) (hstk : st0 = as.reverse ++ .ref a :: rest) (hdg : decode cc pc = .ok (.invokevirtual index, 3)) :
    zRun Γ p l e R s m args below meth c H locs cells slots 3 (F0 m pc ls st0) rest g res gf := by
  obtain ⟨cellB, hcB, hoB, hclB, -⟩ := z_recv X0.1 X0.2.1 hI hc ho
  obtain ⟨hG, hw, hx, hb, hml, hown, hr, hlocks, ht, hnm, hn, hme⟩ := X0
  have hdg' : decode c.code pc = .ok (.invokevirtual index, 3) := by rw [hb]; exact hdg
  refine z_into (hC.2 R p e below s args 3 8 hR.1 hR.2 hw) hdg' (hsz.trans hml.symm) hW hI fun T hT X => ?_
  obtain ⟨mk0, mt, hnamed0, hmt, hsig⟩ := hC.1 s hw
  obtain ⟨mk, methM, hnamed, hmethM, hstM, habM⟩ := Cond.instanceMethod_spec (z_w (args := args) hG hw hin)
  cases Option.some.inj (hnamed0.symm.trans hnamed)
  cases Option.some.inj (hmt.symm.trans hmethM)
  obtain ⟨c2, r2, m2, q1, q2, q3, q4, kP, hkP, hkPi⟩ := Cond.selects_spec (z_w (args := args) hG hw hse)
  cases hclB.symm.trans q1
  cases (State.methodFound?_of_named hnamed hd.1).symm.trans q2
  cases hnamed.symm.trans q3
  have hselP : selectMethod e.platform s.vm cellB.cls mk0 = .method mk0 := by rw [Launch.admits_selectMethod X.admits]; exact q4
  obtain ⟨vm₁, X₁, hstep₁⟩ := X.invokevirtual hx hown (z_w hG hw hl) hnamed hmethM hstM hkP hkPi hd.1 (a := a) (cell := cellB) (by rw [hT]; exact hcB)
    (fun z h => by rw [h] at hoB; cases hoB) hselP hmethM habM hkP hkPi (g := F0 m pc ls st0) rfl (argsL := as) (rest := rest) (z_len hd.2 hsig) hstk hdg'
  exact ⟨vm₁, mk0, X₁, X₁.named hnamed, fun target h => hstep₁ _ fun acts => by rw [doInvoke_state]; exact h⟩
/-- .. of a nest mate -/
theorem z_callVN {C host : String} {T0 : u_T} {N ci a : Nat} {as : List Value} (X0 : zX Γ p l s m meth c y0 cc nL ret hh) (hI : zI Γ R s g H locs cells slots) (hC : zCT Γ l y fr lc (.ref a :: as) g res gf) (hc : zcl[ci]? = some (C, T0, N)) (ho : zob g a ci) (hl : Cond.methodLinkNest y0.cls index y host ∈ lw_tbl) (hin : Cond.instanceMethod y ∈ lw_all) (hse : Cond.selects C y y ∈ lw_all)
    (hd : zMH y ∧ (parseMethodDescriptor y.desc).map (fun d => d.parameters.length) = some as.length) (hR : fr + 1 ≤ R.frames ∧ 8 + lc ≤ R.locals) (hsz : ls.size = nL) (hW : (rest.map fun v => v.category).sum ≤ 8) (hstk : st0 = as.reverse ++ .ref a :: rest) (hdg : decode cc pc = .ok (.invokevirtual index, 3)) :
    zRun Γ p l e R s m args below meth c H locs cells slots 3 (F0 m pc ls st0) rest g res gf := by
  obtain ⟨cellB, hcB, hoB, hclB, -⟩ := z_recv X0.1 X0.2.1 hI hc ho
  obtain ⟨hG, hw, hx, hb, hml, hown, hr, hlocks, ht, hnm, hn, hme⟩ := X0
  have hdg' : decode c.code pc = .ok (.invokevirtual index, 3) := by rw [hb]; exact hdg
  refine z_into (hC.2 R p e below s args 3 8 hR.1 hR.2 hw) hdg' (hsz.trans hml.symm) hW hI fun T hT X => ?_
  obtain ⟨mk0, mt, hnamed0, hmt, hsig⟩ := hC.1 s hw
  obtain ⟨mk, methM, hnamed, hmethM, hstM, habM⟩ := Cond.instanceMethod_spec (z_w (args := args) hG hw hin)
  cases Option.some.inj (hnamed0.symm.trans hnamed)
  cases Option.some.inj (hmt.symm.trans hmethM)
  obtain ⟨c2, r2, m2, q1, q2, q3, q4, kP, hkP, hkPi⟩ := Cond.selects_spec (z_w (args := args) hG hw hse)
  cases hclB.symm.trans q1
  cases (State.methodFound?_of_named hnamed hd.1).symm.trans q2
  cases hnamed.symm.trans q3
  have hselP : selectMethod e.platform s.vm cellB.cls mk0 = .method mk0 := by rw [Launch.admits_selectMethod X.admits]; exact q4
  obtain ⟨vm₁, X₁, hstep₁⟩ := X.invokevirtualNest hx hown (z_wM hG hw hl) hnamed hmethM hstM hkP hkPi hd.1 (a := a) (cell := cellB) (by rw [hT]; exact hcB)
    (fun z h => by rw [h] at hoB; cases hoB) hselP hmethM habM hkP hkPi (g := F0 m pc ls st0) rfl (argsL := as) (rest := rest) (z_len hd.2 hsig) hstk hdg'
  exact ⟨vm₁, mk0, X₁, X₁.named hnamed, fun target h => hstep₁ _ fun acts => by rw [doInvoke_state]; exact h⟩
/-- a constructor -/
theorem z_callI {a : Nat} {as : List Value} {bytes : ByteArray} {maxL : Nat} (X0 : zX Γ p l s m meth c y0 cc nL ret hh) (hI : zI Γ R s g H locs cells slots) (hC : zCT Γ l y fr lc (.ref a :: as) g res gf) (hl : Cond.methodLink y0.cls index y ∈ lw_all) (hin : Cond.instanceMethod y ∈ lw_all) (hcd : Cond.code y bytes maxL none ∈ lw_all)
    (hd : y.name = "<init>" ∧ zMH y ∧ (parseMethodDescriptor y.desc).map (fun d => d.parameters.length) = some as.length) (hR : fr + 1 ≤ R.frames ∧ 8 + lc ≤ R.locals) (hsz : ls.size = nL) (hW : (rest.map fun v => v.category).sum ≤ 8) (hstk : st0 = as.reverse ++ .ref a :: rest) (hdg : decode cc pc = .ok (.invokespecial index, 3)) :
    zRun Γ p l e R s m args below meth c H locs cells slots 3 (F0 m pc ls st0) rest g res gf := by
  obtain ⟨hG, hw, hx, hb, hml, hown, hr, hlocks, ht, hnm, hn, hme⟩ := X0
  have hdg' : decode c.code pc = .ok (.invokespecial index, 3) := by rw [hb]; exact hdg
  refine z_into (hC.2 R p e below s args 3 8 hR.1 hR.2 hw) hdg' (hsz.trans hml.symm) hW hI fun T hT X => ?_
  have hpl : e.platform.magicAccessors = ({} : Platform).magicAccessors := by rw [X.admits.platform]
  obtain ⟨mk, methM, cM, kP, vm₁, hnamed, hmethM, hcodeM, -, hlocalsM, -, hkP, -, hW₁, hstep₁⟩ := Steps.initColdArgs (e := e) X.here hx X.warmed hpl hown hd.1 hd.2.1 (z_w (args := args) hG hw hl) (z_w hG hw hin) (z_w hG hw hcd) (f := F0 m pc ls st0) rfl (fun sig h => z_len hd.2.2 h) hstk hdg'
  have X₁ := X.noted hW₁
  exact ⟨vm₁, mk, X₁, X₁.named hnamed, fun target h => hstep₁ _ fun acts => by rw [doInvoke_state]; exact h⟩
/-- a private constructor of a nest mate -/
theorem z_callIN {a : Nat} {as : List Value} {bytes : ByteArray} {maxL : Nat} {host : String} (X0 : zX Γ p l s m meth c y0 cc nL ret hh) (hI : zI Γ R s g H locs cells slots) (hC : zCT Γ l y fr lc (.ref a :: as) g res gf) (hl : Cond.methodLinkNest y0.cls index y host ∈ lw_tbl) (hin : Cond.instanceMethod y ∈ lw_all) (hcd : Cond.code y bytes maxL none ∈ lw_all)
    (hd : y.name = "<init>" ∧ zMH y ∧ (parseMethodDescriptor y.desc).map (fun d => d.parameters.length) = some as.length) (hR : fr + 1 ≤ R.frames ∧ 8 + lc ≤ R.locals) (hsz : ls.size = nL) (hW : (rest.map fun v => v.category).sum ≤ 8) (hstk : st0 = as.reverse ++ .ref a :: rest) (hdg : decode cc pc = .ok (.invokespecial index, 3)) :
    zRun Γ p l e R s m args below meth c H locs cells slots 3 (F0 m pc ls st0) rest g res gf := by
  obtain ⟨hG, hw, hx, hb, hml, hown, hr, hlocks, ht, hnm, hn, hme⟩ := X0
  have hdg' : decode c.code pc = .ok (.invokespecial index, 3) := by rw [hb]; exact hdg
  refine z_into (hC.2 R p e below s args 3 8 hR.1 hR.2 hw) hdg' (hsz.trans hml.symm) hW hI fun T hT X => ?_
  have hpl : e.platform.magicAccessors = ({} : Platform).magicAccessors := by rw [X.admits.platform]
  obtain ⟨mk, methM, cM, kP, vm₁, hnamed, hmethM, hcodeM, -, hlocalsM, -, hkP, -, hW₁, hstep₁⟩ := Steps.initColdArgsNest (e := e) X.here hx X.warmed hpl hown hd.1 hd.2.1 (z_wM (args := args) hG hw hl) (z_w hG hw hin) (z_w hG hw hcd) (f := F0 m pc ls st0) rfl (fun sig h => z_len hd.2.2 h) hstk hdg'
  have X₁ := X.noted hW₁
  exact ⟨vm₁, mk, X₁, X₁.named hnamed, fun target h => hstep₁ _ fun acts => by rw [doInvoke_state]; exact h⟩
/-- super.m(..) -/
theorem z_callSU {C : String} {T0 : u_T} {N ci a : Nat} {as : List Value} (X0 : zX Γ p l s m meth c y0 cc nL ret hh) (hI : zI Γ R s g H locs cells slots) (hC : zCT Γ l y fr lc (.ref a :: as) g res gf) (hc : zcl[ci]? = some (C, T0, N)) (ho : zob g a ci) (hl : Cond.methodLink y0.cls index y ∈ lw_all) (hsm : Cond.sameMethod y.cls y.cls y.name y.desc ∈ lw_all) (hsu : Cond.superclass y0.cls y.cls ∈ lw_all) (hin : Cond.instanceMethod y ∈ lw_all)
    (hd : y.name ≠ "<init>" ∧ (parseMethodDescriptor y.desc).map (fun d => d.parameters.length) = some as.length) (hR : fr + 1 ≤ R.frames ∧ 8 + lc ≤ R.locals) (hsz : ls.size = nL) (hW : (rest.map fun v => v.category).sum ≤ 8) (hstk : st0 = as.reverse ++ .ref a :: rest) (hdg : decode cc pc = .ok (.invokespecial index, 3)) :
    zRun Γ p l e R s m args below meth c H locs cells slots 3 (F0 m pc ls st0) rest g res gf := by
  obtain ⟨cellB, hcB, hoB, hclB, kB, hkB⟩ := z_recv X0.1 X0.2.1 hI hc ho
  obtain ⟨hG, hw, hx, hb, hml, hown, hr, hlocks, ht, hnm, hn, hme⟩ := X0
  have hdg' : decode c.code pc = .ok (.invokespecial index, 3) := by rw [hb]; exact hdg
  refine z_into (hC.2 R p e below s args 3 8 hR.1 hR.2 hw) hdg' (hsz.trans hml.symm) hW hI fun T hT X => ?_
  obtain ⟨mk0, mt, hnamed0, hmt, hsig⟩ := hC.1 s hw
  obtain ⟨mk, methM, hnamed, hmethM, hstM, habM⟩ := Cond.instanceMethod_spec (z_w (args := args) hG hw hin)
  cases Option.some.inj (hnamed0.symm.trans hnamed)
  cases Option.some.inj (hmt.symm.trans hmethM)
  obtain ⟨ps, dk, kp, hps, hdk, hkp, hsuper, -, -, hnid⟩ := Cond.superclass_spec hown (z_w (args := args) hG hw hsu)
  have hn' : s.methodNamed? ⟨y.cls, y.name, y.desc⟩ = some mk0 := hnamed
  have hpm : ps = mk0.cls := Option.some.inj (hps.symm.trans (findClass_of_methodNamed hnamed))
  have hsub : s.vm.isSubclass ps mk0.cls = true := by rw [hpm]; simp [Vm.isSubclass, Vm.isSubclassAux]
  obtain ⟨vm₁, X₁, hstep₁⟩ := X.invokespecialUp hx hown (z_w hG hw hl) (z_w hG hw hsm) hn' hmethM hstM habM hd.1 hdk hnid hps hsuper hsub (a := a) (cell := cellB) (by rw [hT]; exact hcB)
    (fun z h => by rw [h] at hoB; cases hoB) hkB (g := F0 m pc ls st0) rfl (argsL := as) (rest := rest) (z_len hd.2 hsig) hstk hdg'
  exact ⟨vm₁, mk0, X₁, X₁.named hnamed, fun target h => hstep₁ _ (by rw [doInvoke_state]; exact h)⟩
/-- through an interface, the receiver of a class of the list -/
theorem z_callF {C : String} {T0 : u_T} {N ci a count : Nat} {x : MethodName} {as : List Value} (X0 : zX Γ p l s m meth c y0 cc nL ret hh) (hI : zI Γ R s g H locs cells slots) (hC : zCT Γ l y fr lc (.ref a :: as) g res gf) (hc : zcl[ci]? = some (C, T0, N)) (ho : zob g a ci) (hl : Cond.methodLink y0.cls index x ∈ lw_all) (hdc : Cond.declares x ∈ lw_tbl) (hif : Cond.interfaceMethod x.cls x.cls x.name x.desc ∈ lw_tbl)
    (hse : Cond.selects C x y ∈ lw_all) (hin : Cond.instanceMethod y ∈ lw_all) (hpb : Cond.publicMethod y ∈ lw_tbl) (hun : Cond.unhidden C x.name x.desc ∈ lw_tbl) (hca : Cond.castable C x.cls ∈ lw_tbl)
    (hd : zMH x ∧ (parseMethodDescriptor x.desc).map (fun d => d.parameters.length) = some as.length) (hR : fr + 1 ≤ R.frames ∧ 8 + lc ≤ R.locals) (hsz : ls.size = nL) (hW : (rest.map fun v => v.category).sum ≤ 8) (hstk : st0 = as.reverse ++ .ref a :: rest) (hdg : decode cc pc = .ok (.invokeinterface index count, 5)) :
    zRun Γ p l e R s m args below meth c H locs cells slots 5 (F0 m pc ls st0) rest g res gf := by
  obtain ⟨cellB, hcB, hoB, hclB, kB, hkB⟩ := z_recv X0.1 X0.2.1 hI hc ho
  obtain ⟨hG, hw, hx, hb, hml, hown, hr, hlocks, ht, hnm, hn, hme⟩ := X0
  have hdg' : decode c.code pc = .ok (.invokeinterface index count, 5) := by rw [hb]; exact hdg
  refine z_into (hC.2 R p e below s args 5 8 hR.1 hR.2 hw) hdg' (hsz.trans hml.symm) hW hI fun T hT X => ?_
  obtain ⟨f1, f2, f3, f4, f5⟩ := va_Fw.moved (C := C) (y := y) hd.1 hw.alike (va_Fw.of (hG.1 _ hdc) (hG.1 _ hif) (hG.1 _ hpb) (hG.1 _ hun) (hG.1 _ hca))
  obtain ⟨r0, r, hnr, hrm, hstR, hsigR⟩ := Cond.declares_spec f1
  obtain ⟨cL, kL, r1, hcL, hkL, hiL, hfoundL, hn1⟩ := Cond.interfaceMethod_spec f2
  cases hnr.symm.trans hn1
  have hr0cls : r0.cls = cL := Option.some.inj ((findClass_of_methodNamed hnr).symm.trans hcL)
  obtain ⟨hnameR, hdescR⟩ := name_of_methodNamed hnr hrm
  obtain ⟨mk, methM, hnamed, hmethM, -, habM⟩ := Cond.instanceMethod_spec (z_w (args := args) hG hw hin)
  obtain ⟨c2, r2, m2, q1, q2, q3, q4, -⟩ := Cond.selects_spec (z_w (args := args) hG hw hse)
  cases hclB.symm.trans q1
  cases hfoundL.symm.trans q2
  cases hnamed.symm.trans q3
  have hselP : selectMethod e.platform s.vm cellB.cls r0 = .method mk := by rw [Launch.admits_selectMethod X.admits]; exact q4
  have hpubM : hasFlag methM.accessFlags Acc.public_ = true := Cond.publicMethod_spec hnamed hmethM f3
  have hway : ((cellB.cls :: s.vm.superclasses cellB.cls).any fun k => (declaredIn s.vm r.name r.desc k).any fun (_, z) => z.isPrivate || z.isStatic) = false := by
    rw [hnameR, hdescR]; exact Cond.unhidden_spec hclB f4
  obtain ⟨c3, t3, w1, w2, w3⟩ := Cond.castable_spec f5
  cases hclB.symm.trans w1
  cases hcL.symm.trans w2
  obtain ⟨vm₁, X₁, hstep₁⟩ := X.invokeinterface hx hown (z_w hG hw hl) hnr hrm hstR (by rw [hr0cls]; exact hkL) hiL hd.1 (a := a) (cell := cellB) (kcell := kB) (by rw [hT]; exact hcB)
    (fun z h => by rw [h] at hoB; cases hoB) hkB (by rw [hr0cls]; exact w3) hselP hmethM hway hpubM habM (g := F0 m pc ls st0) rfl (argsL := as) (rest := rest) (z_len hd.2 hsigR) hstk hdg'
  exact ⟨vm₁, mk, X₁, X₁.named hnamed, fun target h => hstep₁ _ fun acts => by rw [doInvoke_state]; exact h⟩
end ZCALL
