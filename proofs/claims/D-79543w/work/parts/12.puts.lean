/-! rows for putfield by the kind of the field, super() of Object -/
section ZPUT
variable {Γ : zG} {p : Program} {l : Launch} {e : Env} {R : Room} {s : State} {m : MethodId} {args : Array Value} {below : List Frame} {meth : Method} {c : Code} {H : Heap} {locs : List Loc} {cells slots pc : Nat} {ls : Array Slot} {rest : List Value} {g g1 : zH} {Q : State → Prop}
variable {y0 : MethodName} {cc : ByteArray} {nL index : Nat} {ret : Option FieldType} {hh : List (Nat × Nat × Nat × Nat)} {ref C host : String} {T0 : u_T} {N ci : Nat} {ty0 : Nat → FieldType} {r w : Option Nat} {x : Int32} {ty : FieldType}
theorem z_pI (X0 : zX Γ p l s m meth c y0 cc nL ret hh) (hI : zI Γ R s g H locs cells slots) (fd : zFD ci C T0 N ty0) (k : Nat) (hk : k < N) (h19 : ci ≠ 19) (hv : zpI g r ci k x = some g1) (hl : Cond.fieldLink y0.cls index ref (T0 k).2.1 (T0 k).2.2.1 ∈ lw_all) (hsame : ∀ x, s.fieldFound? (T0 k).1 (T0 k).2.1 (T0 k).2.2.1 = some x → s.fieldFound? ref (T0 k).2.1 (T0 k).2.2.1 = some x) (hfin : (T0 k).2.2.2 = false) (hty : ty0 k = .int) (hdg : decode cc pc = .ok (.putfield index, 3))
    (kk : ∀ (H1 : Heap) (locs1 : List Loc), zI Γ R s g1 H1 locs1 cells slots → W p l e R s m args below meth c H1 locs1 cells slots Q (F0 m (pc + 3) ls rest)) : W p l e R s m args below meth c H locs cells slots Q (F0 m pc ls (.int x :: va_rf r :: rest)) := by
  obtain ⟨a, fs, rfl, h1, h2, rfl⟩ := zpV_spec hv
  exact z_put X0 hI fd k hk h19 h1 h2 hl hsame hfin hty rfl rfl hdg kk
theorem z_pN (X0 : zX Γ p l s m meth c y0 cc nL ret hh) (hI : zI Γ R s g H locs cells slots) (fd : zFD ci C T0 N ty0) (k : Nat) (hk : k < N) (h19 : ci ≠ 19) (hv : zpN ty g r ci k x = some g1) (hl : Cond.fieldLink y0.cls index ref (T0 k).2.1 (T0 k).2.2.1 ∈ lw_all) (hsame : ∀ x, s.fieldFound? (T0 k).1 (T0 k).2.1 (T0 k).2.2.1 = some x → s.fieldFound? ref (T0 k).2.1 (T0 k).2.2.1 = some x) (hfin : (T0 k).2.2.2 = false) (hty : ty0 k = ty) (hdg : decode cc pc = .ok (.putfield index, 3))
    (kk : ∀ (H1 : Heap) (locs1 : List Loc), zI Γ R s g1 H1 locs1 cells slots → W p l e R s m args below meth c H1 locs1 cells slots Q (F0 m (pc + 3) ls rest)) : W p l e R s m args below meth c H locs cells slots Q (F0 m pc ls (.int x :: va_rf r :: rest)) := by
  unfold zpN at hv
  by_cases hc : vp_nar ty x = x ∧ fits ty (.int x) = true
  · rw [if_pos hc] at hv
    obtain ⟨a, fs, rfl, h1, h2, rfl⟩ := zpV_spec hv
    exact z_put X0 hI fd k hk h19 h1 h2 hl hsame hfin hty (z_nar ty x hc.1) hc.2 hdg kk
  · rw [if_neg hc] at hv; cases hv
theorem z_pR (X0 : zX Γ p l s m meth c y0 cc nL ret hh) (hI : zI Γ R s g H locs cells slots) (fd : zFD ci C T0 N ty0) (k : Nat) (hk : k < N) (h19 : ci ≠ 19) (hv : zpR g r ci k w = some g1) (hl : Cond.fieldLink y0.cls index ref (T0 k).2.1 (T0 k).2.2.1 ∈ lw_all) (hsame : ∀ x, s.fieldFound? (T0 k).1 (T0 k).2.1 (T0 k).2.2.1 = some x → s.fieldFound? ref (T0 k).2.1 (T0 k).2.2.1 = some x) (hfin : (T0 k).2.2.2 = false) (hty : (ty0 k).isReference = true) (hdg : decode cc pc = .ok (.putfield index, 3))
    (kk : ∀ (H1 : Heap) (locs1 : List Loc), zI Γ R s g1 H1 locs1 cells slots → W p l e R s m args below meth c H1 locs1 cells slots Q (F0 m (pc + 3) ls rest)) : W p l e R s m args below meth c H locs cells slots Q (F0 m pc ls (va_rf w :: va_rf r :: rest)) := by
  obtain ⟨a, fs, rfl, h1, h2, rfl⟩ := zpV_spec hv
  exact z_put X0 hI fd k hk h19 h1 h2 hl hsame hfin rfl (z_fitR _ hty w).1 (z_fitR _ hty w).2 hdg kk
theorem z_pIN (X0 : zX Γ p l s m meth c y0 cc nL ret hh) (hI : zI Γ R s g H locs cells slots) (fd : zFD ci C T0 N ty0) (k : Nat) (hk : k < N) (h19 : ci ≠ 19) (hv : zpI g r ci k x = some g1) (hl : Cond.fieldLinkNest y0.cls index ref (T0 k).2.1 (T0 k).2.2.1 host ∈ lw_tbl) (hsame : ∀ x, s.fieldFound? (T0 k).1 (T0 k).2.1 (T0 k).2.2.1 = some x → s.fieldFound? ref (T0 k).2.1 (T0 k).2.2.1 = some x) (hfin : (T0 k).2.2.2 = false) (hty : ty0 k = .int) (hdg : decode cc pc = .ok (.putfield index, 3))
    (kk : ∀ (H1 : Heap) (locs1 : List Loc), zI Γ R s g1 H1 locs1 cells slots → W p l e R s m args below meth c H1 locs1 cells slots Q (F0 m (pc + 3) ls rest)) : W p l e R s m args below meth c H locs cells slots Q (F0 m pc ls (.int x :: va_rf r :: rest)) := by
  obtain ⟨a, fs, rfl, h1, h2, rfl⟩ := zpV_spec hv
  exact z_putN X0 hI fd k hk h19 h1 h2 hl hsame hfin hty rfl rfl hdg kk
theorem z_pNN (X0 : zX Γ p l s m meth c y0 cc nL ret hh) (hI : zI Γ R s g H locs cells slots) (fd : zFD ci C T0 N ty0) (k : Nat) (hk : k < N) (h19 : ci ≠ 19) (hv : zpN ty g r ci k x = some g1) (hl : Cond.fieldLinkNest y0.cls index ref (T0 k).2.1 (T0 k).2.2.1 host ∈ lw_tbl) (hsame : ∀ x, s.fieldFound? (T0 k).1 (T0 k).2.1 (T0 k).2.2.1 = some x → s.fieldFound? ref (T0 k).2.1 (T0 k).2.2.1 = some x) (hfin : (T0 k).2.2.2 = false) (hty : ty0 k = ty) (hdg : decode cc pc = .ok (.putfield index, 3))
    (kk : ∀ (H1 : Heap) (locs1 : List Loc), zI Γ R s g1 H1 locs1 cells slots → W p l e R s m args below meth c H1 locs1 cells slots Q (F0 m (pc + 3) ls rest)) : W p l e R s m args below meth c H locs cells slots Q (F0 m pc ls (.int x :: va_rf r :: rest)) := by
  unfold zpN at hv
  by_cases hc : vp_nar ty x = x ∧ fits ty (.int x) = true
  · rw [if_pos hc] at hv
    obtain ⟨a, fs, rfl, h1, h2, rfl⟩ := zpV_spec hv
    exact z_putN X0 hI fd k hk h19 h1 h2 hl hsame hfin hty (z_nar ty x hc.1) hc.2 hdg kk
  · rw [if_neg hc] at hv; cases hv
theorem z_pRN (X0 : zX Γ p l s m meth c y0 cc nL ret hh) (hI : zI Γ R s g H locs cells slots) (fd : zFD ci C T0 N ty0) (k : Nat) (hk : k < N) (h19 : ci ≠ 19) (hv : zpR g r ci k w = some g1) (hl : Cond.fieldLinkNest y0.cls index ref (T0 k).2.1 (T0 k).2.2.1 host ∈ lw_tbl) (hsame : ∀ x, s.fieldFound? (T0 k).1 (T0 k).2.1 (T0 k).2.2.1 = some x → s.fieldFound? ref (T0 k).2.1 (T0 k).2.2.1 = some x) (hfin : (T0 k).2.2.2 = false) (hty : (ty0 k).isReference = true) (hdg : decode cc pc = .ok (.putfield index, 3))
    (kk : ∀ (H1 : Heap) (locs1 : List Loc), zI Γ R s g1 H1 locs1 cells slots → W p l e R s m args below meth c H1 locs1 cells slots Q (F0 m (pc + 3) ls rest)) : W p l e R s m args below meth c H locs cells slots Q (F0 m pc ls (va_rf w :: va_rf r :: rest)) := by
  obtain ⟨a, fs, rfl, h1, h2, rfl⟩ := zpV_spec hv
  exact z_putN X0 hI fd k hk h19 h1 h2 hl hsame hfin rfl (z_fitR _ hty w).1 (z_fitR _ hty w).2 hdg kk
theorem z_pIF (X0 : zX Γ p l s m meth c y0 cc nL ret hh) (hI : zI Γ R s g H locs cells slots) (fd : zFD ci C T0 N ty0) (k : Nat) (hk : k < N) (h19 : ci ≠ 19) (hv : zpI g r ci k x = some g1) (hl : Cond.fieldLink y0.cls index ref (T0 k).2.1 (T0 k).2.2.1 ∈ lw_all) (hsame : ∀ x, s.fieldFound? (T0 k).1 (T0 k).2.1 (T0 k).2.2.1 = some x → s.fieldFound? ref (T0 k).2.1 (T0 k).2.2.1 = some x) (hfin : (T0 k).2.2.2 = true) (hin2 : y0.name = "<init>") (hdecl : (T0 k).1 = y0.cls) (hty : ty0 k = .int) (hdg : decode cc pc = .ok (.putfield index, 3))
    (kk : ∀ (H1 : Heap) (locs1 : List Loc), zI Γ R s g1 H1 locs1 cells slots → W p l e R s m args below meth c H1 locs1 cells slots Q (F0 m (pc + 3) ls rest)) : W p l e R s m args below meth c H locs cells slots Q (F0 m pc ls (.int x :: va_rf r :: rest)) := by
  obtain ⟨a, fs, rfl, h1, h2, rfl⟩ := zpV_spec hv
  exact z_putF X0 hI fd k hk h19 h1 h2 hl hsame hfin hin2 hdecl hty rfl rfl hdg kk
theorem z_pNF (X0 : zX Γ p l s m meth c y0 cc nL ret hh) (hI : zI Γ R s g H locs cells slots) (fd : zFD ci C T0 N ty0) (k : Nat) (hk : k < N) (h19 : ci ≠ 19) (hv : zpN ty g r ci k x = some g1) (hl : Cond.fieldLink y0.cls index ref (T0 k).2.1 (T0 k).2.2.1 ∈ lw_all) (hsame : ∀ x, s.fieldFound? (T0 k).1 (T0 k).2.1 (T0 k).2.2.1 = some x → s.fieldFound? ref (T0 k).2.1 (T0 k).2.2.1 = some x) (hfin : (T0 k).2.2.2 = true) (hin2 : y0.name = "<init>") (hdecl : (T0 k).1 = y0.cls) (hty : ty0 k = ty) (hdg : decode cc pc = .ok (.putfield index, 3))
    (kk : ∀ (H1 : Heap) (locs1 : List Loc), zI Γ R s g1 H1 locs1 cells slots → W p l e R s m args below meth c H1 locs1 cells slots Q (F0 m (pc + 3) ls rest)) : W p l e R s m args below meth c H locs cells slots Q (F0 m pc ls (.int x :: va_rf r :: rest)) := by
  unfold zpN at hv
  by_cases hc : vp_nar ty x = x ∧ fits ty (.int x) = true
  · rw [if_pos hc] at hv
    obtain ⟨a, fs, rfl, h1, h2, rfl⟩ := zpV_spec hv
    exact z_putF X0 hI fd k hk h19 h1 h2 hl hsame hfin hin2 hdecl hty (z_nar ty x hc.1) hc.2 hdg kk
  · rw [if_neg hc] at hv; cases hv
theorem z_pRF (X0 : zX Γ p l s m meth c y0 cc nL ret hh) (hI : zI Γ R s g H locs cells slots) (fd : zFD ci C T0 N ty0) (k : Nat) (hk : k < N) (h19 : ci ≠ 19) (hv : zpR g r ci k w = some g1) (hl : Cond.fieldLink y0.cls index ref (T0 k).2.1 (T0 k).2.2.1 ∈ lw_all) (hsame : ∀ x, s.fieldFound? (T0 k).1 (T0 k).2.1 (T0 k).2.2.1 = some x → s.fieldFound? ref (T0 k).2.1 (T0 k).2.2.1 = some x) (hfin : (T0 k).2.2.2 = true) (hin2 : y0.name = "<init>") (hdecl : (T0 k).1 = y0.cls) (hty : (ty0 k).isReference = true) (hdg : decode cc pc = .ok (.putfield index, 3))
    (kk : ∀ (H1 : Heap) (locs1 : List Loc), zI Γ R s g1 H1 locs1 cells slots → W p l e R s m args below meth c H1 locs1 cells slots Q (F0 m (pc + 3) ls rest)) : W p l e R s m args below meth c H locs cells slots Q (F0 m pc ls (va_rf w :: va_rf r :: rest)) := by
  obtain ⟨a, fs, rfl, h1, h2, rfl⟩ := zpV_spec hv
  exact z_putF X0 hI fd k hk h19 h1 h2 hl hsame hfin hin2 hdecl rfl (z_fitR _ hty w).1 (z_fitR _ hty w).2 hdg kk
theorem z_objInit {a : Nat} {n : Nat} (X0 : zX Γ p l s m meth c y0 cc nL ret hh) (hl : Cond.methodLink y0.cls index Lib.objectInit ∈ lw_all) (hin : Cond.instanceMethod Lib.objectInit ∈ lw_all) (hcd : Cond.code Lib.objectInit ⟨#[0xb1]⟩ 1 none ∈ lw_all) (hsz : ls.size = nL) (hW : (rest.map fun v => v.category).sum ≤ n) (hR : 1 ≤ R.frames ∧ n + 12 ≤ R.locals) (hdg : decode cc pc = .ok (.invokespecial index, 3))
    (kk : W p l e R s m args below meth c H locs cells slots Q (F0 m (pc + 3) ls rest)) : W p l e R s m args below meth c H locs cells slots Q (F0 m pc ls (va_rf (some a) :: rest)) :=
  W.objInit X0.2.2.1 X0.2.2.2.1 X0.2.2.2.2.2.1 (z_w X0.1 X0.2.1 hl) (z_w X0.1 X0.2.1 hin) (z_w X0.1 X0.2.1 hcd) rfl (by show ls.size = _; rw [hsz]; exact X0.2.2.2.2.1.symm) rfl hdg hR.1 (by show 2 * 0 + _ + 12 ≤ _; omega) kk
end ZPUT
