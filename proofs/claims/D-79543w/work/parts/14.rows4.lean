/-! statics, private and inherited methods, instanceof, finally -/
section ZROW4
variable {Γ : zG} {p : Program} {l : Launch} {e : Env} {R : Room} {s : State} {m : MethodId} {args : Array Value} {below : List Frame} {meth : Method} {c : Code} {H : Heap} {locs : List Loc} {cells slots pc : Nat} {ls : Array Slot} {st0 rest : List Value} {g g0 g1 gf : zH} {Q : State → Prop} {res : Option Value ⊕ Nat}
variable {y0 y : MethodName} {cc : ByteArray} {nL fr lc index : Nat} {ret : Option FieldType} {hh : List (Nat × Nat × Nat × Nat)} {C ref n d : String} {T0 : u_T} {N ci a : Nat} {r : Option Nat} {i : Int32} {as : List Value}
theorem z_gs {k : Nat} (X0 : zX Γ p l s m meth c y0 cc nL ret hh) (hI : zI Γ R s g H locs cells slots) (hk : zsts[k]? = some (C, n, d)) (hl : Cond.fieldLink y0.cls index ref n d ∈ lw_all) (hsame : ∀ x, s.fieldFound? C n d = some x → s.fieldFound? ref n d = some x) (hdg : decode cc pc = .ok (.getstatic index, 3))
    (kk : W p l e R s m args below meth c H locs cells slots Q (F0 m (pc + 3) ls (va_rf (g.2.2.2.2 k) :: rest))) : W p l e R s m args below meth c H locs cells slots Q (F0 m pc ls rest) := by
  obtain ⟨cf, kf, fi, f, a, cell, h1, h2, h3, h4, h5, h6, h7, h8⟩ := va_Z.moved X0.2.1.alike (X0.1.2.2.2.2.2.1 k _ hk)
  rw [hI.1.2.2.2.2] at kk
  exact W.gets X0.2.2.1 X0.2.2.2.1 X0.2.2.2.2.2.1 (z_w X0.1 X0.2.1 hl) (hsame _ h1) h2 h3 h4 (by rw [hI.1.2.2.1 a (Nat.not_le.mp h8)]; exact h5) (fun e => by rw [e] at h6; cases h6) h7 rfl hdg kk
theorem z_gsi {v : Int32} (X0 : zX Γ p l s m meth c y0 cc nL ret hh) (hI : zI Γ R s g H locs cells slots) (hk : (C, n, d, v) ∈ zsti) (hl : Cond.fieldLink y0.cls index ref n d ∈ lw_all) (hsame : ∀ x, s.fieldFound? C n d = some x → s.fieldFound? ref n d = some x) (hdg : decode cc pc = .ok (.getstatic index, 3))
    (kk : W p l e R s m args below meth c H locs cells slots Q (F0 m (pc + 3) ls (.int v :: rest))) : W p l e R s m args below meth c H locs cells slots Q (F0 m pc ls rest) := by
  obtain ⟨cf, kf, fi, f, a, cell, h1, h2, h3, h4, h5, h6, h7, h8⟩ := va_Z.moved X0.2.1.alike (X0.1.2.2.2.2.2.2.1 _ hk)
  exact W.gets X0.2.2.1 X0.2.2.2.1 X0.2.2.2.2.2.1 (z_w X0.1 X0.2.1 hl) (hsame _ h1) h2 h3 h4 (by rw [hI.1.2.2.1 a (Nat.not_le.mp h8)]; exact h5) (fun e => by rw [e] at h6; cases h6) h7 rfl hdg kk
/-- a private method, on an object of any class of the list -/
theorem z_callP {C : String} {T0 : u_T} {N ci a : Nat} {as : List Value} (X0 : zX Γ p l s m meth c y0 cc nL ret hh) (hI : zI Γ R s g H locs cells slots) (hC : zCT Γ l y fr lc (.ref a :: as) g res gf) (hc : zcl[ci]? = some (C, T0, N)) (ho : zob g a ci) (hl : Cond.methodLink y0.cls index y ∈ lw_all) (hin : Cond.instanceMethod y ∈ lw_all) (hpv : Cond.privateMethod y ∈ lw_tbl) {S9 : String} (hsu : Cond.superclass y.cls S9 ∈ lw_all)
    (hd : zMH y ∧ (parseMethodDescriptor y.desc).map (fun d => d.parameters.length) = some as.length) (hR : fr + 1 ≤ R.frames ∧ 8 + lc ≤ R.locals) (hsz : ls.size = nL) (hW : (rest.map fun v => v.category).sum ≤ 8) (hstk : st0 = as.reverse ++ .ref a :: rest) (hdg : decode cc pc = .ok (.invokevirtual index, 3)) :
    zRun Γ p l e R s m args below meth c H locs cells slots 3 (F0 m pc ls st0) rest g res gf := by
  obtain ⟨cellB, hcB, hoB, hclB, -⟩ := z_recv X0.1 X0.2.1 hI hc ho
  obtain ⟨hG, hw, hx, hb, hml, hown, hr, hlocks, ht, hnm, hn, hme⟩ := X0
  have hdg' : decode c.code pc = .ok (.invokevirtual index, 3) := by rw [hb]; exact hdg
  refine z_into (hC.2 R p e below s args 3 8 hR.1 hR.2 hw) hdg' (hsz.trans hml.symm) hW hI fun T hT X => ?_
  obtain ⟨mk0, methM, hnamed, hmethM, hsig⟩ := hC.1 s hw
  obtain ⟨mk, methM9, hnamed9, hmethM9, hstM, habM⟩ := Cond.instanceMethod_spec (z_w (args := args) hG hw hin)
  cases Option.some.inj (hnamed9.symm.trans hnamed)
  cases Option.some.inj (hmethM9.symm.trans hmethM)
  have hpr : s.PrivateAt y := by
    have h9 : (Cond.privateMethod y).before Γ.2.1 (Γ.1.setVm s.vm) = true := by rw [Cond.privateMethod_setVm hw.alike]; exact hG.1 _ hpv
    exact Cond.privateMethod_at (args := Γ.2.1) (va_tabs (u := Γ.1.setVm s.vm) rfl rfl h9)
  have hselP : selectMethod e.platform s.vm cellB.cls mk0 = .method mk0 := selectMethod_private hmethM (hpr mk0 methM hnamed hmethM)
  obtain ⟨p9, kP, kp9, -, hkP, -, -, -, -, hkPi⟩ := Cond.superclass_spec (findClass_of_methodNamed hnamed) (z_w (args := args) hG hw hsu)
  obtain ⟨vm₁, X₁, hstep₁⟩ := X.invokevirtual hx hown (z_w hG hw hl) hnamed hmethM hstM hkP hkPi hd.1 (a := a) (cell := cellB) (by rw [hT]; exact hcB)
    (fun z h => by rw [h] at hoB; cases hoB) hselP hmethM habM hkP hkPi (g := F0 m pc ls st0) rfl (argsL := as) (rest := rest) (z_len hd.2 hsig) hstk hdg'
  exact ⟨vm₁, mk0, X₁, X₁.named hnamed, fun target h => hstep₁ _ fun acts => by rw [doInvoke_state]; exact h⟩
/-- an inherited method, by its receiver's class -/
theorem z_callU {C owner : String} {x : MethodName} {T0 : u_T} {N ci a : Nat} {as : List Value} (X0 : zX Γ p l s m meth c y0 cc nL ret hh) (hI : zI Γ R s g H locs cells slots) (hC : zCT Γ l y fr lc (.ref a :: as) g res gf) (hc : zcl[ci]? = some (C, T0, N)) (ho : zob g a ci) (hl : Cond.methodLink y0.cls index x ∈ lw_all) (hsm : Cond.sameMethod x.cls owner x.name x.desc ∈ lw_all) (hyx : y = ⟨owner, x.name, x.desc⟩) (how : owner ≠ "java/lang/invoke/MethodHandle" ∧ owner ≠ "java/lang/invoke/VarHandle") (hin : Cond.instanceMethod y ∈ lw_all) (hse : Cond.selects C x y ∈ lw_all)
    (hd : (parseMethodDescriptor x.desc).map (fun d => d.parameters.length) = some as.length) (hR : fr + 1 ≤ R.frames ∧ 8 + lc ≤ R.locals) (hsz : ls.size = nL) (hW : (rest.map fun v => v.category).sum ≤ 8) (hstk : st0 = as.reverse ++ .ref a :: rest) (hdg : decode cc pc = .ok (.invokevirtual index, 3)) :
    zRun Γ p l e R s m args below meth c H locs cells slots 3 (F0 m pc ls st0) rest g res gf := by
  obtain ⟨cellB, hcB, hoB, hclB, -⟩ := z_recv X0.1 X0.2.1 hI hc ho
  obtain ⟨hG, hw, hx, hb, hml, hown, hr, hlocks, ht, hnm, hn, hme⟩ := X0
  have hdg' : decode c.code pc = .ok (.invokevirtual index, 3) := by rw [hb]; exact hdg
  refine z_into (hC.2 R p e below s args 3 8 hR.1 hR.2 hw) hdg' (hsz.trans hml.symm) hW hI fun T hT X => ?_
  have hsame := z_w (args := args) hG hw hsm
  obtain ⟨r0, r, hnr, hrm, hsigR⟩ := hC.1 s hw
  obtain ⟨mk9, meth9, hnamed9, hmeth9, hstR, -⟩ := Cond.instanceMethod_spec (z_w (args := args) hG hw hin)
  cases Option.some.inj (hnamed9.symm.trans hnr)
  cases Option.some.inj (hmeth9.symm.trans hrm)
  have hdx : x.desc = y.desc := by rw [hyx]
  have hsigR : parseMethodDescriptor x.desc = some r.sig := by rw [hdx]; exact hsigR
  have hnr : s.methodNamed? ⟨owner, x.name, x.desc⟩ = some r0 := by rw [← hyx]; exact hnr
  obtain ⟨cn, ck, r1, hcn, hck, hni, hf, hn1⟩ := Cond.sameMethod_found hsame
  cases hnr.symm.trans hn1
  obtain ⟨mk, methM, hnamed, hmethM, -, habM⟩ := Cond.instanceMethod_spec (z_w (args := args) hG hw hin)
  obtain ⟨c2, r2, m2, q1, q2, q3, q4, kP, hkP, hkPi⟩ := Cond.selects_spec (z_w (args := args) hG hw hse)
  cases hclB.symm.trans q1
  cases hf.symm.trans q2
  cases hnamed.symm.trans q3
  have hselP : selectMethod e.platform s.vm cellB.cls r0 = .method mk := by rw [Launch.admits_selectMethod X.admits]; exact q4
  obtain ⟨vm₁, X₁, hstep₁⟩ := X.invokevirtualUp hx hown (z_w hG hw hl) hsame how hnr hrm hstR (a := a) (cell := cellB) (by rw [hT]; exact hcB)
    (fun z h => by rw [h] at hoB; cases hoB) hselP hmethM habM hkP hkPi (g := F0 m pc ls st0) rfl (argsL := as) (rest := rest) (z_len hd hsigR) hstk hdg'
  exact ⟨vm₁, mk, X₁, X₁.named hnamed, fun target h => hstep₁ _ fun acts => by rw [doInvoke_state]; exact h⟩
/-- instanceof: 1 for the class itself, 0 for one said not castable to it -/
def zis (g : zH) (r : Option Nat) (cy cn : Nat) : Option Int32 := match r with
  | none => some 0
  | some a => if zcls g a = some cy then some 1 else if zcls g a = some cn then some 0 else none
theorem z_is {v : Int32} {cy cn Ny Nn : Nat} {Cy Cn : String} {Ty Tn : u_T} (X0 : zX Γ p l s m meth c y0 cc nL ret hh) (hI : zI Γ R s g H locs cells slots) (hcy : zcl[cy]? = some (Cy, Ty, Ny)) (hcn : zcl[cn]? = some (Cn, Tn, Nn)) (hnc : (Cn, Cy) ∈ znc) (hv : zis g r cy cn = some v) (hl : Cond.classLink y0.cls index Cy ∈ lw_all) (hdg : decode cc pc = .ok (.instanceof index, 3)) (kk : W p l e R s m args below meth c H locs cells slots Q (F0 m (pc + 3) ls (.int v :: rest))) : W p l e R s m args below meth c H locs cells slots Q (F0 m pc ls (va_rf r :: rest)) := by
  cases r with
  | none => cases hv; exact lv_instN X0.2.2.1 X0.2.2.2.1 hdg kk
  | some a =>
    unfold zis at hv
    dsimp only at hv
    by_cases h1 : zcls g a = some cy
    · rw [if_pos h1] at hv; cases hv; exact z_instS X0 hI hcy h1 hl hdg kk
    · rw [if_neg h1] at hv
      by_cases h2 : zcls g a = some cn
      · rw [if_pos h2] at hv; cases hv
        obtain ⟨ce, e1, e2, e3⟩ := z_cellOf X0 hI hcn h2
        exact va_instNo X0.2.2.1 X0.2.2.2.1 X0.2.2.2.2.2.1 (z_w X0.1 X0.2.1 hl) (z_nc X0.1 X0.2.1 (X0.1.2.2.2.2.2.2.2.1 _ hnc)) ⟨ce, e1, by rw [e2]; rfl, e3⟩ hdg kk
      · rw [if_neg h2] at hv; cases hv
/-- caught by a row for everything (a finally) -/
theorem z_catchAny {q : Nat} (X0 : zX Γ p l s m meth c y0 cc nL ret hh) (hI : zI Γ R s g H locs cells slots) (hc : zcl[ci]? = some (C, T0, N)) (ho : zcls g q = some ci) (pre : List ExceptionTableEntry) (x : ExceptionTableEntry) (suf : List ExceptionTableEntry) (hsplit : tableOf hh = pre ++ x :: suf)
    (hpass : ∀ z ∈ pre, covers z pc = false) (hx : covers x pc = true) (h0 : x.catchType = 0)
    (kk : W p l e R s m args below meth c H locs cells slots Q (F0 m x.handlerPc ls [va_rf (some q)])) : vx_W p l e R s m args below meth c H locs cells slots Q (F0 m pc ls rest) q := by
  obtain ⟨ce, h1, h2, h3⟩ := z_cellOf X0 hI hc ho
  intro T hT X
  obtain ⟨vm', X', st⟩ := X.thenCaughtThrough q (g := F0 m pc ls rest) rfl (Steps.refl _) (by rw [hT]; exact h1) (by rw [h2]; rfl) (by obtain ⟨k9, h9, -⟩ := Vm.findClass_spec h3; exact ⟨k9, h9⟩) pre x suf (X0.2.2.2.2.2.2.2.2.1.trans hsplit)
    (fun z hz => Or.inl (hpass z hz)) hx (Or.inl h0)
  obtain ⟨t, a1, b1⟩ := kk (T.setVm vm') hT X'
  exact ⟨t, st.trans a1, b1⟩
end ZROW4
