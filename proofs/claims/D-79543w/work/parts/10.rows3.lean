/-! ends of methods, throws and catches, exceptions of the JDK as objects, casts -/
section ZROW3
variable {Γ : zG} {p : Program} {l : Launch} {e : Env} {R : Room} {s : State} {m : MethodId} {args : Array Value} {below : List Frame} {meth : Method} {c : Code} {H : Heap} {locs : List Loc} {cells slots pc : Nat} {ls : Array Slot} {rest : List Value} {g g0 g1 : zH} {Q : State → Prop}
variable {y0 : MethodName} {cc : ByteArray} {nL index : Nat} {ret : Option FieldType} {hh : List (Nat × Nat × Nat × Nat)} {C host ref : String} {T0 : u_T} {N ci t k : Nat} {ty0 : Nat → FieldType} {r : Option Nat} {i : Int32}
theorem z_mq {v : Option Value} {f : JFrame} (hI : zI Γ R s g H locs cells slots) (kk : W p l e R s m args below meth c H locs cells slots (MQ below (fun _ _ o t => o = .returned v ∧ t.heap = H) args s cells slots (fun q => Γ.1.heap.size ≤ q)) f) :
    W p l e R s m args below meth c H locs cells slots (zQ Γ below s R (.inl v) g0 g) f := by
  intro T hT X
  obtain ⟨t, a1, o, b1, b2, ⟨rfl, hh⟩, L, ⟨-, hW, hsm⟩, hL⟩ := kk T hT X
  obtain ⟨i1, i2, i3, i4, i5, i6⟩ := hI
  exact ⟨t, a1, .returned v, b1, b2, rfl, by rw [hh]; exact i1, hW, ⟨L, hsm.mono (by omega) (by omega), hL⟩, by rw [hh]; exact i5, by rw [hh]; exact i6⟩
theorem z_iret {x : Int32} (X0 : zX Γ p l s m meth c y0 cc nL (some .int) hh) (hI : zI Γ R s g H locs cells slots) (hdg : decode cc pc = .ok (.ireturn, 1)) :
    W p l e R s m args below meth c H locs cells slots (zQ Γ below s R (.inl (some (.int x))) g0 g) (F0 m pc ls [.int x]) :=
  z_mq hI (W.iret X0.2.2.1 X0.2.2.2.1 X0.2.2.2.2.2.2.1 (fun t ht _ => ⟨rfl, ht⟩) hI.2.1 hdg (hlocks := X0.2.2.2.2.2.2.2.1))
theorem z_zret {x : Int32} {ty : FieldType} (X0 : zX Γ p l s m meth c y0 cc nL (some ty) hh) (hI : zI Γ R s g H locs cells slots) (hn : vp_nar ty x = x) (hdg : decode cc pc = .ok (.ireturn, 1)) :
    W p l e R s m args below meth c H locs cells slots (zQ Γ below s R (.inl (some (.int x))) g0 g) (F0 m pc ls [.int x]) :=
  z_mq hI (W.zret X0.2.2.1 X0.2.2.2.1 X0.2.2.2.2.2.2.1 (z_nar ty x hn) (fun t ht _ => ⟨rfl, ht⟩) hI.2.1 hdg (hlocks := X0.2.2.2.2.2.2.2.1))
theorem z_vret (X0 : zX Γ p l s m meth c y0 cc nL none hh) (hI : zI Γ R s g H locs cells slots) (hdg : decode cc pc = .ok (.return_, 1)) :
    W p l e R s m args below meth c H locs cells slots (zQ Γ below s R (.inl none) g0 g) (F0 m pc ls []) :=
  z_mq hI (W.vret X0.2.2.1 X0.2.2.2.1 X0.2.2.2.2.2.2.1 (fun t ht _ => ⟨rfl, ht⟩) hI.2.1 hdg (hlocks := X0.2.2.2.2.2.2.2.1))
theorem z_aret {ty : FieldType} (X0 : zX Γ p l s m meth c y0 cc nL (some ty) hh) (hI : zI Γ R s g H locs cells slots) (hty : (∃ n, ty = .object n) ∨ ∃ t, ty = .array t) (hdg : decode cc pc = .ok (.areturn, 1)) :
    W p l e R s m args below meth c H locs cells slots (zQ Γ below s R (.inl (some (va_rf r))) g0 g) (F0 m pc ls [va_rf r]) :=
  z_mq hI (W.aret X0.2.2.1 X0.2.2.2.1 X0.2.2.2.2.2.2.1 hty (by cases r with | none => exact Or.inl rfl | some a => exact Or.inr ⟨a, rfl⟩) (fun t ht _ => ⟨rfl, ht⟩) hI.2.1 hdg (hlocks := X0.2.2.2.2.2.2.2.1))
theorem z_dret {x : UInt64} (X0 : zX Γ p l s m meth c y0 cc nL (some .double) hh) (hI : zI Γ R s g H locs cells slots) (hdg : decode cc pc = .ok (.dreturn, 1)) :
    W p l e R s m args below meth c H locs cells slots (zQ Γ below s R (.inl (some (.double x))) g0 g) (F0 m pc ls [.double x]) :=
  z_mq hI (W.dret X0.2.2.1 X0.2.2.2.1 X0.2.2.2.2.2.2.1 (fun t ht _ => ⟨rfl, ht⟩) hI.2.1 hdg (hlocks := X0.2.2.2.2.2.2.2.1))
/-- 'throw x' -/
theorem z_athrow {q : Nat} (X0 : zX Γ p l s m meth c y0 cc nL ret hh) (hdg : decode cc pc = .ok (.athrow, 1)) (kk : vx_W p l e R s m args below meth c H locs cells slots Q (F0 m pc ls rest) q) : W p l e R s m args below meth c H locs cells slots Q (F0 m pc ls (va_rf (some q) :: rest)) :=
  vx_athrow X0.2.2.1 X0.2.2.2.1 hdg kk
/-- of which class an object is -/
def zcls (g : zH) (a : Nat) : Option Nat := match g.2.2.2.1 a with
  | some (.inr (.inl o)) => some o.1
  | _ => none
theorem zcls_spec {a : Nat} (h : zcls g a = some ci) : zob g a ci := by
  unfold zcls at h
  rcases hg : g.2.2.2.1 a with _ | x | o | o <;> rw [hg] at h <;> dsimp only at h <;> try (cases h; done)
  cases h
  exact ⟨o.2, hg⟩
theorem z_cellOf {a : Nat} (X0 : zX Γ p l s m meth c y0 cc nL ret hh) (hI : zI Γ R s g H locs cells slots) (hc : zcl[ci]? = some (C, T0, N)) (ho : zcls g a = some ci) : ∃ cell : Cell, H[a]? = some cell ∧ cell.vm = .none ∧ s.vm.findClass C = some cell.cls := by
  obtain ⟨fs, hf⟩ := zcls_spec ho
  obtain ⟨r, h1, cell, g1, g2, g3, -⟩ := (z_at0 hI hf).1
  have hr : r = (C, T0, N) := Option.some.inj (h1.symm.trans hc)
  subst hr
  exact ⟨cell, g1, g3, by rw [g2]; exact ((z_K X0.1 X0.2.1).1 ci _ hc).2.1⟩
/-- classes that the Statement says not castable, at a state of the run -/
theorem z_nc {E nm : String} (hG : zOK Γ l) (hw : Γ.1.WarmedH s.vm) (h : va_Nc E nm Γ.1) : va_Nc E nm s := h.moved hw.alike
/-- caught by the row x of the table, the rows ahead don't cover the place or name other classes -/
theorem z_catch {q : Nat} {name : String} (X0 : zX Γ p l s m meth c y0 cc nL ret hh) (hI : zI Γ R s g H locs cells slots) (hc : zcl[ci]? = some (C, T0, N)) (ho : zcls g q = some ci) (pre : List ExceptionTableEntry) (x : ExceptionTableEntry) (suf : List ExceptionTableEntry) (hsplit : tableOf hh = pre ++ x :: suf)
    (hpass : ∀ z ∈ pre, covers z pc = false ∨ (z.catchType ≠ 0 ∧ ∃ nm : String, Cond.classLink y0.cls z.catchType nm ∈ lw_all ∧ va_Nc C nm s)) (hx : covers x pc = true) (h0 : x.catchType ≠ 0) (hl : Cond.classLink y0.cls x.catchType name ∈ lw_all) (hca : Cond.castable C name ∈ lw_tbl)
    (kk : W p l e R s m args below meth c H locs cells slots Q (F0 m x.handlerPc ls [va_rf (some q)])) : vx_W p l e R s m args below meth c H locs cells slots Q (F0 m pc ls rest) q := by
  obtain ⟨ce, h1, h2, h3⟩ := z_cellOf X0 hI hc ho
  exact vx_catch X0.2.2.2.2.2.1 pre x suf (X0.2.2.2.2.2.2.2.2.1.trans hsplit) (fun z hz => (hpass z hz).elim Or.inl fun ⟨z0, nm, q1, q2⟩ => Or.inr ⟨z0, nm, z_w X0.1 X0.2.1 q1, q2⟩) hx h0 (z_w X0.1 X0.2.1 hl) (z_wC X0.1 X0.2.1 hca) h1 h2 h3 kk
theorem z_castN (X0 : zX Γ p l s m meth c y0 cc nL ret hh) (hdg : decode cc pc = .ok (.checkcast index, 3)) (kk : W p l e R s m args below meth c H locs cells slots Q (F0 m (pc + 3) ls (va_rf none :: rest))) : W p l e R s m args below meth c H locs cells slots Q (F0 m pc ls (va_rf none :: rest)) :=
  lv_castN X0.2.2.1 X0.2.2.2.1 hdg kk
/-- checkcast to a class that the object's class is said to be castable to -/
theorem z_castY {a : Nat} {nm : String} (X0 : zX Γ p l s m meth c y0 cc nL ret hh) (hI : zI Γ R s g H locs cells slots) (hc : zcl[ci]? = some (C, T0, N)) (ho : zcls g a = some ci) (hl : Cond.classLink y0.cls index nm ∈ lw_all) (hca : Cond.castable C nm ∈ lw_tbl) (hdg : decode cc pc = .ok (.checkcast index, 3)) (kk : W p l e R s m args below meth c H locs cells slots Q (F0 m (pc + 3) ls (va_rf (some a) :: rest))) : W p l e R s m args below meth c H locs cells slots Q (F0 m pc ls (va_rf (some a) :: rest)) := by
  obtain ⟨ce, h1, h2, h3⟩ := z_cellOf X0 hI hc ho
  exact va_castY X0.2.2.1 X0.2.2.2.1 X0.2.2.2.2.2.1 (z_w X0.1 X0.2.1 hl) (va_Nw.of rfl (z_wC (args := args) X0.1 X0.2.1 hca)) ⟨ce, h1, by rw [h2]; rfl, h3⟩ hdg kk
/-- .. to its own class -/
theorem z_castS {a : Nat} (X0 : zX Γ p l s m meth c y0 cc nL ret hh) (hI : zI Γ R s g H locs cells slots) (hc : zcl[ci]? = some (C, T0, N)) (ho : zcls g a = some ci) (hl : Cond.classLink y0.cls index C ∈ lw_all) (hdg : decode cc pc = .ok (.checkcast index, 3)) (kk : W p l e R s m args below meth c H locs cells slots Q (F0 m (pc + 3) ls (va_rf (some a) :: rest))) : W p l e R s m args below meth c H locs cells slots Q (F0 m pc ls (va_rf (some a) :: rest)) := by
  obtain ⟨ce, h1, h2, h3⟩ := z_cellOf X0 hI hc ho
  exact va_castS X0.2.2.1 X0.2.2.2.1 X0.2.2.2.2.2.1 (z_w X0.1 X0.2.1 hl) ((z_K X0.1 X0.2.1).1 ci _ hc).2 ⟨ce, h1, by rw [h2]; rfl, h3⟩ hdg kk
theorem z_instS {a : Nat} (X0 : zX Γ p l s m meth c y0 cc nL ret hh) (hI : zI Γ R s g H locs cells slots) (hc : zcl[ci]? = some (C, T0, N)) (ho : zcls g a = some ci) (hl : Cond.classLink y0.cls index C ∈ lw_all) (hdg : decode cc pc = .ok (.instanceof index, 3)) (kk : W p l e R s m args below meth c H locs cells slots Q (F0 m (pc + 3) ls (.int 1 :: rest))) : W p l e R s m args below meth c H locs cells slots Q (F0 m pc ls (va_rf (some a) :: rest)) := by
  obtain ⟨ce, h1, h2, h3⟩ := z_cellOf X0 hI hc ho
  exact va_instS X0.2.2.1 X0.2.2.2.1 X0.2.2.2.2.2.1 (z_w X0.1 X0.2.1 hl) ((z_K X0.1 X0.2.1).1 ci _ hc).2 ⟨ce, h1, by rw [h2]; rfl, h3⟩ hdg kk
/-- storing a reference -/
theorem z_asg {b : Nat} {o : Nat × List Value} (hG : zOK Γ l) (hw : Γ.1.WarmedH s.vm) (hI : zI Γ R s g H locs cells slots) (hb : g.2.2.2.1 b = some (.inr (.inl o))) (hp : zpr.contains (o.1, t) = true) :
    ∃ (cv : Cell) (kA kv kcomp : Class) (comp : ClassId) (ty : FieldType), ztys[t]? = some ty ∧ ty.isReference = true ∧ s.vm.classes[Γ.2.2.2.1 t]? = some kA ∧ kA.kind = .array comp ty ∧ s.vm.classes[comp]? = some kcomp ∧ H[b]? = some cv ∧ cv.vm = .none ∧ s.vm.classes[cv.cls]? = some kv ∧ s.vm.assignable cv.cls comp = true := by
  obtain ⟨ci, fs⟩ := o
  have key : ∀ (C : String) (T0 : u_T) (N : Nat) (D : String), zcl[ci]? = some (C, T0, N) → ztys[t]? = some (.object D) → (C = D ∨ Cond.castable C D ∈ lw_tbl) →
      ∃ (cv : Cell) (kA kv kcomp : Class) (comp : ClassId) (ty : FieldType), ztys[t]? = some ty ∧ ty.isReference = true ∧ s.vm.classes[Γ.2.2.2.1 t]? = some kA ∧ kA.kind = .array comp ty ∧ s.vm.classes[comp]? = some kcomp ∧ H[b]? = some cv ∧ cv.vm = .none ∧ s.vm.classes[cv.cls]? = some kv ∧ s.vm.assignable cv.cls comp = true := by
    intro C T0 N D hc ht hD
    obtain ⟨kA, comp, k1, k2, k3, -⟩ := (hG.2.2.1 t _ ht).2.moved hw.alike
    obtain ⟨r, h1, cell, q1, q2, q3, -⟩ := (z_at0 hI hb).1
    have hr : r = (C, T0, N) := Option.some.inj (h1.symm.trans hc)
    subst hr
    have hcls := ((z_K hG hw).1 ci _ hc).2
    obtain ⟨kC, hkC, -⟩ := hcls.2
    obtain ⟨kcomp, hkc, -⟩ := Vm.findClass_spec k3
    refine ⟨cell, kA, kC, kcomp, comp, .object D, ht, rfl, k1, k2, hkc, q1, q3, by rw [q2]; exact hkC, ?_⟩
    rw [q2]
    rcases hD with rfl | hD
    · have e1 : comp = Γ.2.2.1.1 ci := Option.some.inj (k3.symm.trans hcls.1)
      rw [e1]
      exact va_assign hcls
    · obtain ⟨c3, t3, w1, w2, w3⟩ := Cond.castable_spec (z_wC (args := #[]) hG hw hD)
      cases Option.some.inj (hcls.1.symm.trans w1)
      cases Option.some.inj (k3.symm.trans w2)
      exact w3
  have h9 : (ci, t) ∈ zpr := List.contains_iff_mem.mp hp
  simp only [zpr, List.mem_cons, Prod.mk.injEq, List.not_mem_nil, or_false] at h9
  rcases h9 with ⟨rfl, rfl⟩ | ⟨rfl, rfl⟩ | ⟨rfl, rfl⟩ | ⟨rfl, rfl⟩ | ⟨rfl, rfl⟩ | ⟨rfl, rfl⟩
  · exact key _ _ _ _ rfl rfl (Or.inl rfl)
  · exact key _ _ _ _ rfl rfl (Or.inl rfl)
  · exact key _ _ _ _ rfl rfl (Or.inl rfl)
  · exact key _ _ _ _ rfl rfl (Or.inr q2663)
  · exact key _ _ _ _ rfl rfl (Or.inr q2662)
  · exact key _ _ _ _ rfl rfl (Or.inr q2650)
theorem z_stR {a n : Nat} {f : Nat → Option Nat} {H1 : Heap} {v : Option Nat} (ht : ∃ ty, ztys[t]? = some ty) (e1 : H1[a]? = some ((arrV (Γ.2.2.2.1 t) n (fun j => va_rf (f j))).setSlot i.toNatClampNeg (va_rf v))) : zat Γ a (.inl (t, n, .inr (.inr (.inr (.inr (va_up f i.toNatClampNeg v)))))) H1 := by
  refine ⟨ht, ?_⟩
  rw [e1, vp_cell_q, arrV_store]
  congr 2
  funext q
  by_cases hq : q = i.toNatClampNeg
  · subst hq; simp [updV, va_up]
  · simp [updV, va_up, hq]
theorem z_aastN (X0 : zX Γ p l s m meth c y0 cc nL ret hh) (hI : zI Γ R s g H locs cells slots) (ht : ztys[t]? = some (.object C)) (hv : zsR g r t i none = some g1) (hdg : decode cc pc = .ok (.aastore, 1))
    (kk : ∀ (H1 : Heap) (locs1 : List Loc), zI Γ R s g1 H1 locs1 cells slots → W p l e R s m args below meth c H1 locs1 cells slots Q (F0 m (pc + 1) ls rest)) : W p l e R s m args below meth c H locs cells slots Q (F0 m pc ls (va_rf none :: .int i :: va_rf r :: rest)) := by
  obtain ⟨a, n, f, rfl, h2, hin, -, rfl⟩ := zsR_spec hv
  have h9 := z_at hI h2 (fun h0 => hin (Or.inr (by have h0 : n = 0 := h0; omega)))
  have hc : H[a]? = some (arrV (Γ.2.2.2.1 t) n (fun j => va_rf (f j))) := h9.2.2
  refine va_WaastN (C := C) X0.2.2.1 X0.2.2.2.1 hc (((z_KA X0.1 X0.2.1 ht).2 0 _ rfl).1 n (fun j => va_rf (f j))) (fun q => by cases q) (by rw [arrV_size]; exact hin) rfl rfl hdg fun H1 e1 z oq => ?_
  exact kk H1 _ (hI.set hc e1 (k2_slotsz _ _ _) z oq h9.1 (z_stR ⟨_, ht⟩ e1))
/-- an object of the list's classes, or null -/
theorem z_aast {v : Option Nat} (X0 : zX Γ p l s m meth c y0 cc nL ret hh) (hI : zI Γ R s g H locs cells slots) (ht : ztys[t]? = some (.object C)) (hlam : ∀ b o, v = some b → g.2.2.2.1 b ≠ some (.inr (.inr o))) (hv : zsR g r t i v = some g1) (hdg : decode cc pc = .ok (.aastore, 1))
    (kk : ∀ (H1 : Heap) (locs1 : List Loc), zI Γ R s g1 H1 locs1 cells slots → W p l e R s m args below meth c H1 locs1 cells slots Q (F0 m (pc + 1) ls rest)) : W p l e R s m args below meth c H locs cells slots Q (F0 m pc ls (va_rf v :: .int i :: va_rf r :: rest)) := by
  cases v with
  | none => exact z_aastN X0 hI ht hv hdg kk
  | some b =>
    obtain ⟨a, n, f, rfl, h2, hin, has, rfl⟩ := zsR_spec hv
    have h9 := z_at hI h2 (fun h0 => hin (Or.inr (by have h0 : n = 0 := h0; omega)))
    have hc : H[a]? = some (arrV (Γ.2.2.2.1 t) n (fun j => va_rf (f j))) := h9.2.2
    have hlt : i.toNatClampNeg < n := Nat.not_le.mp fun q => hin (Or.inr q)
    have h0 : ¬ i < 0 := fun q => hin (Or.inl q)
    unfold zas at has
    dsimp only at has
    rcases hg : g.2.2.2.1 b with _ | x | o | o <;> rw [hg] at has <;> dsimp only at has <;> try (cases has; done)
    · obtain ⟨cv, kA, kv, kcomp, comp, ty, t1, t2, k1, k2, k3, v1, v2, v3, v4⟩ := z_asg X0.1 X0.2.1 hI hg has
      refine W.aast X0.2.2.1 X0.2.2.2.1 hc (fun q h => by cases h) (fun h => by cases h) k1 k2 t2 k3 ⟨h0, by rw [arrV_size]; exact hlt⟩ v1 (fun q h => by rw [v2] at h; cases h) v3 v4 rfl rfl hdg fun H1 e1 z oq => ?_
      exact kk H1 _ (hI.set hc e1 (k2_slotsz _ _ _) z oq h9.1 (z_stR ⟨_, ht⟩ e1))
    · exact absurd hg (hlam b o rfl)
end ZROW3
