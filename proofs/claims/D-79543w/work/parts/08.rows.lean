/-! THE GHOST HEAP's OPERATIONS, and a row for each instruction that touches the heap -/
def zgf (g : zH) (r : Option Nat) (ci k : Nat) : Option Value := match r with
  | none => none
  | some a => match g.2.2.2.1 a with
    | some (.inr (.inl o)) => if o.1 = ci then o.2[k]? else none
    | _ => none
def zgI (g : zH) (r : Option Nat) (ci k : Nat) : Option Int32 := match zgf g r ci k with
  | some (.int x) => some x
  | _ => none
def zgR (g : zH) (r : Option Nat) (ci k : Nat) : Option (Option Nat) := match zgf g r ci k with
  | some .null => some none
  | some (.ref b) => some (some b)
  | _ => none
def zpV (g : zH) (r : Option Nat) (ci k : Nat) (v : Value) : Option zH := match r with
  | none => none
  | some a => match g.2.2.2.1 a with
    | some (.inr (.inl o)) => if o.1 = ci ∧ k < o.2.length then some (zset g a (.inr (.inl (ci, o.2.set k v)))) else none
    | _ => none
def zpI (g : zH) (r : Option Nat) (ci k : Nat) (x : Int32) : Option zH := zpV g r ci k (.int x)
def zpN (ty : FieldType) (g : zH) (r : Option Nat) (ci k : Nat) (x : Int32) : Option zH := if vp_nar ty x = x ∧ fits ty (.int x) = true then zpV g r ci k (.int x) else none
def zpR (g : zH) (r : Option Nat) (ci k : Nat) (v : Option Nat) : Option zH := zpV g r ci k (va_rf v)
def zar (g : zH) (r : Option Nat) (t : Nat) : Option vp_A := match r with
  | none => none
  | some a => match g.2.2.2.1 a with
    | some (.inl x) => if x.1 = t then some x.2 else none
    | _ => none
def zal (g : zH) (r : Option Nat) (t : Nat) : Option Int32 := match zar g r t with
  | some x => some (Int32.ofNat x.1)
  | none => none
def zaI (g : zH) (r : Option Nat) (t : Nat) (i : Int32) : Option Int32 := match zar g r t with
  | some (n, .inl f) => if i < 0 ∨ n ≤ i.toNatClampNeg then none else some (f i.toNatClampNeg)
  | _ => none
def zaJ (g : zH) (r : Option Nat) (t : Nat) (i : Int32) : Option Int64 := match zar g r t with
  | some (n, .inr (.inl f)) => if i < 0 ∨ n ≤ i.toNatClampNeg then none else some (f i.toNatClampNeg)
  | _ => none
def zaD (g : zH) (r : Option Nat) (t : Nat) (i : Int32) : Option UInt64 := match zar g r t with
  | some (n, .inr (.inr (.inr (.inl f)))) => if i < 0 ∨ n ≤ i.toNatClampNeg then none else some (f i.toNatClampNeg)
  | _ => none
def zaR (g : zH) (r : Option Nat) (t : Nat) (i : Int32) : Option (Option Nat) := match zar g r t with
  | some (n, .inr (.inr (.inr (.inr f)))) => if i < 0 ∨ n ≤ i.toNatClampNeg then none else some (f i.toNatClampNeg)
  | _ => none
def zsI (ty : FieldType) (g : zH) (r : Option Nat) (t : Nat) (i x : Int32) : Option zH := match zar g r t with
  | some (n, .inl f) => if i < 0 ∨ n ≤ i.toNatClampNeg then none else some (zset g (r.getD 0) (.inl (t, n, .inl (upd f i.toNatClampNeg (vp_nar ty x)))))
  | _ => none
def zsJ (g : zH) (r : Option Nat) (t : Nat) (i : Int32) (x : Int64) : Option zH := match zar g r t with
  | some (n, .inr (.inl f)) => if i < 0 ∨ n ≤ i.toNatClampNeg then none else some (zset g (r.getD 0) (.inl (t, n, .inr (.inl (vp_updL f i.toNatClampNeg x)))))
  | _ => none
def zsD (g : zH) (r : Option Nat) (t : Nat) (i : Int32) (x : UInt64) : Option zH := match zar g r t with
  | some (n, .inr (.inr (.inr (.inl f)))) => if i < 0 ∨ n ≤ i.toNatClampNeg then none else some (zset g (r.getD 0) (.inl (t, n, .inr (.inr (.inr (.inl (vf_upd f i.toNatClampNeg x)))))))
  | _ => none
/-- which objects may be stored in which arrays: (number of the class, number of the array class) -/
def zpr : List (Nat × Nat) := [(8, 5), (3, 6), (2, 7), (7, 8), (6, 8), (1, 8)]
def zas (g : zH) (t : Nat) (v : Option Nat) : Bool := match v with
  | none => true
  | some b => match g.2.2.2.1 b with
    | some (.inr (.inl o)) => zpr.contains (o.1, t)
    | some (.inr (.inr _)) => t == 8
    | _ => false
def zsR (g : zH) (r : Option Nat) (t : Nat) (i : Int32) (v : Option Nat) : Option zH := match zar g r t with
  | some (n, .inr (.inr (.inr (.inr f)))) => if i < 0 ∨ n ≤ i.toNatClampNeg ∨ zas g t v = false then none else some (zset g (r.getD 0) (.inl (t, n, .inr (.inr (.inr (.inr (va_up f i.toNatClampNeg v)))))))
  | _ => none
def zN1 (g : zH) (n : Nat) (e : zE) : Option (Nat × zH) := if 1 ≤ g.2.1 ∧ n ≤ g.2.2.1 then some (g.1, zadd g n e) else none
/-- a new array of i places -/
def znA (g : zH) (t : Nat) (i : Int32) (c0 : (Nat → Int32) ⊕ (Nat → Int64) ⊕ (Nat → UInt32) ⊕ (Nat → UInt64) ⊕ (Nat → Option Nat)) : Option (Nat × zH) := if ¬ i < 0 ∧ i.toNatClampNeg ≤ 65536 then zN1 g i.toNatClampNeg (.inl (t, i.toNatClampNeg, c0)) else none
theorem zb {α β : Type} {x : Option α} {f : α → Option β} {y : β} (h : x.bind f = some y) : ∃ a, x = some a ∧ f a = some y := Option.bind_eq_some_iff.mp h
theorem zgf_spec {g : zH} {r : Option Nat} {ci k : Nat} {v : Value} (h : zgf g r ci k = some v) : ∃ a fs, r = some a ∧ g.2.2.2.1 a = some (.inr (.inl (ci, fs))) ∧ fs[k]? = some v := by
  unfold zgf at h
  cases r with
  | none => cases h
  | some a =>
    dsimp only at h
    rcases hg : g.2.2.2.1 a with _ | x | o | o <;> rw [hg] at h <;> dsimp only at h
    · cases h
    · cases h
    · obtain ⟨c, fs⟩ := o
      by_cases hc : c = ci
      · rw [if_pos hc] at h
        subst hc
        exact ⟨a, fs, rfl, hg, h⟩
      · rw [if_neg hc] at h
        cases h
    · cases h
theorem zgI_spec {g : zH} {r : Option Nat} {ci k : Nat} {x : Int32} (h : zgI g r ci k = some x) : ∃ a fs, r = some a ∧ g.2.2.2.1 a = some (.inr (.inl (ci, fs))) ∧ fs[k]? = some (.int x) := by
  unfold zgI at h
  cases hv : zgf g r ci k with
  | none => rw [hv] at h; cases h
  | some v =>
    rw [hv] at h
    cases v <;> simp at h
    subst h
    exact zgf_spec hv
theorem zgR_spec {g : zH} {r : Option Nat} {ci k : Nat} {x : Option Nat} (h : zgR g r ci k = some x) : ∃ a fs, r = some a ∧ g.2.2.2.1 a = some (.inr (.inl (ci, fs))) ∧ fs[k]? = some (va_rf x) := by
  unfold zgR at h
  cases hv : zgf g r ci k with
  | none => rw [hv] at h; cases h
  | some v =>
    rw [hv] at h
    cases v <;> simp at h <;> subst h <;> exact zgf_spec hv
theorem zpV_spec {g g1 : zH} {r : Option Nat} {ci k : Nat} {v : Value} (h : zpV g r ci k v = some g1) : ∃ a fs, r = some a ∧ g.2.2.2.1 a = some (.inr (.inl (ci, fs))) ∧ k < fs.length ∧ g1 = zset g a (.inr (.inl (ci, fs.set k v))) := by
  unfold zpV at h
  cases r with
  | none => cases h
  | some a =>
    dsimp only at h
    rcases hg : g.2.2.2.1 a with _ | x | o | o <;> rw [hg] at h <;> dsimp only at h
    · cases h
    · cases h
    · obtain ⟨c, fs⟩ := o
      by_cases hc : c = ci ∧ k < fs.length
      · rw [if_pos hc] at h
        obtain ⟨hc1, hc2⟩ := hc
        have hc1 : c = ci := hc1
        subst hc1
        exact ⟨a, fs, rfl, hg, hc2, (Option.some.inj h).symm⟩
      · rw [if_neg hc] at h
        cases h
    · cases h
theorem zN1_spec {g g1 : zH} {n a : Nat} {e : zE} (h : zN1 g n e = some (a, g1)) : 1 ≤ g.2.1 ∧ n ≤ g.2.2.1 ∧ a = g.1 ∧ g1 = zadd g n e := by
  unfold zN1 at h
  by_cases hc : 1 ≤ g.2.1 ∧ n ≤ g.2.2.1
  · rw [if_pos hc] at h
    cases h
    exact ⟨hc.1, hc.2, rfl, rfl⟩
  · rw [if_neg hc] at h
    cases h
/-- a class's number, name, fields -/
def zFD (ci : Nat) (C : String) (T0 : u_T) (N : Nat) (ty0 : Nat → FieldType) : Prop := zcl[ci]? = some (C, T0, N) ∧ (∀ w ∈ u_ws C T0 N, w ∈ lw_all) ∧ (∀ k, k < N → parseFieldDescriptor (T0 k).2.2.1 = some (ty0 k)) ∧ ∀ a, a < N → ∀ b, b < N → a ≠ b → (T0 a).2.1 ≠ (T0 b).2.1
theorem zfd0 : zFD 0 RX1 TX1 6 tyX1 := ⟨rfl, in_X1, tyX1_ok, nmX1⟩
theorem zfd1 : zFD 1 RX2 TX2 9 tyX2 := ⟨rfl, in_X2, tyX2_ok, nmX2⟩
theorem zfd2 : zFD 2 RX3 TX3 2 tyX3 := ⟨rfl, in_X3, tyX3_ok, nmX3⟩
theorem zfd3 : zFD 3 RX4 TX4 6 tyX4 := ⟨rfl, in_X4, tyX4_ok, nmX4⟩
theorem zfd4 : zFD 4 RX5 TX5 23 tyX5 := ⟨rfl, in_X5, tyX5_ok, nmX5⟩
theorem zfd5 : zFD 5 RX6 TX6 8 tyX6 := ⟨rfl, in_X6, tyX6_ok, nmX6⟩
theorem zfd6 : zFD 6 RX7 TX7 3 tyX7 := ⟨rfl, in_X7, tyX7_ok, nmX7⟩
theorem zfd7 : zFD 7 RX8 TX8 7 tyX8 := ⟨rfl, in_X8, tyX8_ok, nmX8⟩
theorem zfd8 : zFD 8 RX9 TX9 3 tyX9 := ⟨rfl, in_X9, tyX9_ok, nmX9⟩
theorem zfd9 : zFD 9 RX10 TX10 6 tyX10 := ⟨rfl, in_X10, tyX10_ok, nmX10⟩
theorem zfd10 : zFD 10 RX11 TX11 3 tyX11 := ⟨rfl, in_X11, tyX11_ok, nmX11⟩
theorem zfd11 : zFD 11 RX12 TX12 4 tyX12 := ⟨rfl, in_X12, tyX12_ok, nmX12⟩
theorem zfd12 : zFD 12 RX13 TX13 2 tyX13 := ⟨rfl, in_X13, tyX13_ok, nmX13⟩
theorem zfd13 : zFD 13 RX14 TX14 3 tyX14 := ⟨rfl, in_X14, tyX14_ok, nmX14⟩
theorem zfd14 : zFD 14 RX15 TX15 7 tyX15 := ⟨rfl, in_X15, tyX15_ok, nmX15⟩
theorem zfd15 : zFD 15 RJ2 TJ2 3 tyJ2 := ⟨rfl, in_J2, tyJ2_ok, nmJ2⟩
theorem zfd16 : zFD 16 RJ8 TJ8 4 tyJ8 := ⟨rfl, in_J8, tyJ8_ok, nmJ8⟩
theorem zfd17 : zFD 17 RJ18 TJ18 3 tyJ18 := ⟨rfl, in_J18, tyJ18_ok, nmJ18⟩
theorem zfd18 : zFD 18 RJ21 TJ21 4 tyJ21 := ⟨rfl, in_J21, tyJ21_ok, nmJ21⟩
theorem zfd19 : zFD 19 RJ17 TJ17 1 tyJ17 := ⟨rfl, in_J17, tyJ17_ok, nmJ17⟩
theorem z_fitR (ty : FieldType) (h : ty.isReference = true) (v : Option Nat) : narrow ty (va_rf v) = va_rf v ∧ fits ty (va_rf v) = true := by
  cases ty <;> first | (cases h; done) | (cases v <;> exact ⟨rfl, rfl⟩)
theorem z_nar (ty : FieldType) (x : Int32) (h : vp_nar ty x = x) : narrow ty (.int x) = .int x := by
  cases ty <;> first | rfl | exact congrArg Value.int h
section ZROW
variable {Γ : zG} {p : Program} {l : Launch} {e : Env} {R : Room} {s : State} {m : MethodId} {args : Array Value} {below : List Frame} {meth : Method} {c : Code} {H : Heap} {locs : List Loc} {cells slots pc : Nat} {ls : Array Slot} {rest : List Value} {g g1 : zH} {Q : State → Prop}
variable {y0 : MethodName} {cc : ByteArray} {nL index : Nat} {ret : Option FieldType} {hh : List (Nat × Nat × Nat × Nat)} {ref C host : String} {T0 : u_T} {N ci k : Nat} {ty0 : Nat → FieldType} {r : Option Nat}
theorem zI.set {a i : Nat} {e' : zE} {cell cell' : Cell} {H' : Heap} (hI : zI Γ R s g H locs cells slots) (h1 : H[a]? = some cell) (h2 : H'[a]? = some cell') (hz : cell'.slots.size = cell.slots.size) (hs : H'.size = H.size) (oq : ∀ q, q ≠ a → H'[q]? = H[q]?) (hb : Γ.1.heap.size ≤ a) (he : zat Γ a e' H') : zI Γ R s (zset g a e') H' (locs ++ [⟨a, i⟩]) cells slots := by
  obtain ⟨i1, i2, i3, i4, i5, i6⟩ := hI
  have hzz := zsz_set h1 h2 hz oq
  refine ⟨i1.set hs oq hb he, fun q hq => ?_, by omega, by omega, (by show H'.size + g.2.1 ≤ _; omega), (by show zsz H' + g.2.2.1 ≤ _; omega)⟩
  rcases List.mem_append.mp hq with h | h
  · exact i2 q h
  · rw [List.mem_singleton.mp h]; exact hb
theorem zI.add {n : Nat} {e' : zE} {x : Cell} {H' : Heap} (hI : zI Γ R s g H locs cells slots) (h2 : H'[H.size]? = some x) (hs : H'.size = H.size + 1) (oq : ∀ q, q < H.size → H'[q]? = H[q]?) (hx : x.slots.size ≤ n) (h0 : 1 ≤ g.2.1) (hn : n ≤ g.2.2.1) (he : zat Γ H.size e' H') : zI Γ R s (zadd g n e') H' locs (cells + 1) (slots + x.slots.size) := by
  obtain ⟨i1, i2, i3, i4, i5, i6⟩ := hI
  have hzz := zsz_new hs h2 oq
  exact ⟨i1.add hs oq he, i2, by omega, by omega, (by show H'.size + (g.2.1 - 1) ≤ _; omega), (by show zsz H' + (g.2.2.1 - n) ≤ _; omega)⟩
theorem z_at {a : Nat} {e' : zE} (hI : zI Γ R s g H locs cells slots) (hg : g.2.2.2.1 a = some e') (hm : zmut e') : Γ.1.heap.size ≤ a ∧ zat Γ a e' H := ⟨(hI.1.2.2.2.1 a e' hg).1 hm, (hI.1.2.2.2.1 a e' hg).2⟩
theorem z_at0 {a : Nat} {e' : zE} (hI : zI Γ R s g H locs cells slots) (hg : g.2.2.2.1 a = some e') : zat Γ a e' H := (hI.1.2.2.2.1 a e' hg).2
theorem z_get {a : Nat} {fs : List Value} {v : Value} (X0 : zX Γ p l s m meth c y0 cc nL ret hh) (hI : zI Γ R s g H locs cells slots) (fd : zFD ci C T0 N ty0) (k : Nat) (hk : k < N) (hg : g.2.2.2.1 a = some (.inr (.inl (ci, fs)))) (hv : fs[k]? = some v) (hl : Cond.fieldLink y0.cls index ref (T0 k).2.1 (T0 k).2.2.1 ∈ lw_all) (hsame : ∀ x, s.fieldFound? (T0 k).1 (T0 k).2.1 (T0 k).2.2.1 = some x → s.fieldFound? ref (T0 k).2.1 (T0 k).2.2.1 = some x) (hdg : decode cc pc = .ok (.getfield index, 3))
    (kk : W p l e R s m args below meth c H locs cells slots Q (F0 m (pc + 3) ls (v :: rest))) : W p l e R s m args below meth c H locs cells slots Q (F0 m pc ls (.ref a :: rest)) :=
  va_get (Ts := lw_all) X0.2.2.1 X0.2.2.2.1 (fun w h => z_w X0.1 X0.2.1 h) fd.2.1 X0.2.2.2.2.2.1 (z_K X0.1 X0.2.1) (z_P1 (z_at0 hI hg).1) 0 rfl fd.1 k hk (z_w X0.1 X0.2.1 hl) hsame hv hdg kk
theorem z_getN {a : Nat} {fs : List Value} {v : Value} (X0 : zX Γ p l s m meth c y0 cc nL ret hh) (hI : zI Γ R s g H locs cells slots) (fd : zFD ci C T0 N ty0) (k : Nat) (hk : k < N) (hg : g.2.2.2.1 a = some (.inr (.inl (ci, fs)))) (hv : fs[k]? = some v) (hl : Cond.fieldLinkNest y0.cls index ref (T0 k).2.1 (T0 k).2.2.1 host ∈ lw_tbl) (hsame : ∀ x, s.fieldFound? (T0 k).1 (T0 k).2.1 (T0 k).2.2.1 = some x → s.fieldFound? ref (T0 k).2.1 (T0 k).2.2.1 = some x) (hdg : decode cc pc = .ok (.getfield index, 3))
    (kk : W p l e R s m args below meth c H locs cells slots Q (F0 m (pc + 3) ls (v :: rest))) : W p l e R s m args below meth c H locs cells slots Q (F0 m pc ls (.ref a :: rest)) :=
  va_getN (Ts := lw_all) X0.2.2.1 X0.2.2.2.1 (fun w h => z_w X0.1 X0.2.1 h) fd.2.1 X0.2.2.2.2.2.1 (z_K X0.1 X0.2.1) (z_P1 (z_at0 hI hg).1) 0 rfl fd.1 k hk (z_wF X0.1 X0.2.1 hl) hsame hv hdg kk
theorem z_gI {x : Int32} (X0 : zX Γ p l s m meth c y0 cc nL ret hh) (hI : zI Γ R s g H locs cells slots) (fd : zFD ci C T0 N ty0) (k : Nat) (hk : k < N) (hv : zgI g r ci k = some x) (hl : Cond.fieldLink y0.cls index ref (T0 k).2.1 (T0 k).2.2.1 ∈ lw_all) (hsame : ∀ x, s.fieldFound? (T0 k).1 (T0 k).2.1 (T0 k).2.2.1 = some x → s.fieldFound? ref (T0 k).2.1 (T0 k).2.2.1 = some x) (hdg : decode cc pc = .ok (.getfield index, 3))
    (kk : W p l e R s m args below meth c H locs cells slots Q (F0 m (pc + 3) ls (.int x :: rest))) : W p l e R s m args below meth c H locs cells slots Q (F0 m pc ls (va_rf r :: rest)) := by
  obtain ⟨a, fs, rfl, h1, h2⟩ := zgI_spec hv
  exact z_get X0 hI fd k hk h1 h2 hl hsame hdg kk
theorem z_gR {x : Option Nat} (X0 : zX Γ p l s m meth c y0 cc nL ret hh) (hI : zI Γ R s g H locs cells slots) (fd : zFD ci C T0 N ty0) (k : Nat) (hk : k < N) (hv : zgR g r ci k = some x) (hl : Cond.fieldLink y0.cls index ref (T0 k).2.1 (T0 k).2.2.1 ∈ lw_all) (hsame : ∀ x, s.fieldFound? (T0 k).1 (T0 k).2.1 (T0 k).2.2.1 = some x → s.fieldFound? ref (T0 k).2.1 (T0 k).2.2.1 = some x) (hdg : decode cc pc = .ok (.getfield index, 3))
    (kk : W p l e R s m args below meth c H locs cells slots Q (F0 m (pc + 3) ls (va_rf x :: rest))) : W p l e R s m args below meth c H locs cells slots Q (F0 m pc ls (va_rf r :: rest)) := by
  obtain ⟨a, fs, rfl, h1, h2⟩ := zgR_spec hv
  exact z_get X0 hI fd k hk h1 h2 hl hsame hdg kk
theorem z_gIN {x : Int32} (X0 : zX Γ p l s m meth c y0 cc nL ret hh) (hI : zI Γ R s g H locs cells slots) (fd : zFD ci C T0 N ty0) (k : Nat) (hk : k < N) (hv : zgI g r ci k = some x) (hl : Cond.fieldLinkNest y0.cls index ref (T0 k).2.1 (T0 k).2.2.1 host ∈ lw_tbl) (hsame : ∀ x, s.fieldFound? (T0 k).1 (T0 k).2.1 (T0 k).2.2.1 = some x → s.fieldFound? ref (T0 k).2.1 (T0 k).2.2.1 = some x) (hdg : decode cc pc = .ok (.getfield index, 3))
    (kk : W p l e R s m args below meth c H locs cells slots Q (F0 m (pc + 3) ls (.int x :: rest))) : W p l e R s m args below meth c H locs cells slots Q (F0 m pc ls (va_rf r :: rest)) := by
  obtain ⟨a, fs, rfl, h1, h2⟩ := zgI_spec hv
  exact z_getN X0 hI fd k hk h1 h2 hl hsame hdg kk
theorem z_gRN {x : Option Nat} (X0 : zX Γ p l s m meth c y0 cc nL ret hh) (hI : zI Γ R s g H locs cells slots) (fd : zFD ci C T0 N ty0) (k : Nat) (hk : k < N) (hv : zgR g r ci k = some x) (hl : Cond.fieldLinkNest y0.cls index ref (T0 k).2.1 (T0 k).2.2.1 host ∈ lw_tbl) (hsame : ∀ x, s.fieldFound? (T0 k).1 (T0 k).2.1 (T0 k).2.2.1 = some x → s.fieldFound? ref (T0 k).2.1 (T0 k).2.2.1 = some x) (hdg : decode cc pc = .ok (.getfield index, 3))
    (kk : W p l e R s m args below meth c H locs cells slots Q (F0 m (pc + 3) ls (va_rf x :: rest))) : W p l e R s m args below meth c H locs cells slots Q (F0 m pc ls (va_rf r :: rest)) := by
  obtain ⟨a, fs, rfl, h1, h2⟩ := zgR_spec hv
  exact z_getN X0 hI fd k hk h1 h2 hl hsame hdg kk
theorem z_atput {a : Nat} {fs : List Value} {v : Value} {cell : Cell} {H' : Heap} {iS : Nat} (hg : zat Γ a (.inr (.inl (ci, fs))) H) (hlt : k < fs.length) (h1 : H[a]? = some cell) (e1 : H'[a]? = some (cell.setSlot iS v)) (hv : va_at Γ.2.2.1 zcl (a, .inr (ci, fs.set k v)) H') : zat Γ a (.inr (.inl (ci, fs.set k v))) H' := by
  refine ⟨hv, fun h5 => ?_⟩
  obtain ⟨c0, q1, q2⟩ := hg.2 h5
  cases Option.some.inj (q1.symm.trans h1)
  exact ⟨_, e1, q2⟩
theorem z_put {a : Nat} {fs : List Value} {v : Value} {ty : FieldType} (X0 : zX Γ p l s m meth c y0 cc nL ret hh) (hI : zI Γ R s g H locs cells slots) (fd : zFD ci C T0 N ty0) (k : Nat) (hk : k < N) (h19 : ci ≠ 19) (hg : g.2.2.2.1 a = some (.inr (.inl (ci, fs)))) (hlt : k < fs.length) (hl : Cond.fieldLink y0.cls index ref (T0 k).2.1 (T0 k).2.2.1 ∈ lw_all) (hsame : ∀ x, s.fieldFound? (T0 k).1 (T0 k).2.1 (T0 k).2.2.1 = some x → s.fieldFound? ref (T0 k).2.1 (T0 k).2.2.1 = some x) (hfin : (T0 k).2.2.2 = false) (hty : ty0 k = ty) (hn : narrow ty v = v) (hfit : fits ty v = true) (hdg : decode cc pc = .ok (.putfield index, 3))
    (kk : ∀ (H1 : Heap) (locs1 : List Loc), zI Γ R s (zset g a (.inr (.inl (ci, fs.set k v)))) H1 locs1 cells slots → W p l e R s m args below meth c H1 locs1 cells slots Q (F0 m (pc + 3) ls rest)) : W p l e R s m args below meth c H locs cells slots Q (F0 m pc ls (v :: .ref a :: rest)) := by
  subst hty
  have hat := z_at hI hg h19
  have hts : ∀ w ∈ lw_all, w.before args s = true := fun w h => z_w X0.1 X0.2.1 h
  have hK := z_K X0.1 X0.2.1
  have hap := va_apart (own := y0.cls) hts fd.2.1 ty0 fd.2.2.1 fd.2.2.2 hK fd.1
  obtain ⟨r, h1, cell, q1, q2, q3, q4⟩ := hat.2.1
  have hr : r = (C, T0, N) := Option.some.inj (h1.symm.trans fd.1)
  subst hr
  obtain ⟨hS, hfc, kC, hkC, hkind⟩ := hK.1 ci _ fd.1
  obtain ⟨cf, kf, fi, f, hi, hsl⟩ := hS k hk
  have hlay := hts _ (fd.2.1 _ (u_in_lay hk))
  unfold u_lay at hlay
  rw [if_neg (by rw [hfin]; decide)] at hlay
  have hst := (u_facts hfc hkC (u_lays hts fd.2.1 hk) hi).1
  have h6 := u_store hfc hkC hkind hlay hi (fd.2.2.1 k hk) hn hfit
  refine W.putK X0.2.2.1 X0.2.2.2.1 (f := f) ⟨X0.2.2.2.2.2.1, hts _ hl, ⟨_, _, _, hsame _ hi⟩, hst⟩ (by rw [q2]; exact h6) q1 q3 (by rw [hsl]; exact k2_hasslot (q4 k hk)) rfl rfl hdg fun H' e1 e2 e3 => ?_
  rw [hsl] at e1 ⊢
  exact kk H' _ (hI.set q1 e1 (k2_slotsz _ _ _) e2 e3 hat.1 (z_atput hat.2 hlt q1 e1 ⟨_, fd.1, t_OB.to (V := updV (vp_V fs) k v) ⟨_, e1, q2, q3, t_set q4 hap hk v⟩ (fun j _ => vp_updV_set hlt v j)⟩))
theorem z_putN {a : Nat} {fs : List Value} {v : Value} {ty : FieldType} (X0 : zX Γ p l s m meth c y0 cc nL ret hh) (hI : zI Γ R s g H locs cells slots) (fd : zFD ci C T0 N ty0) (k : Nat) (hk : k < N) (h19 : ci ≠ 19) (hg : g.2.2.2.1 a = some (.inr (.inl (ci, fs)))) (hlt : k < fs.length) (hl : Cond.fieldLinkNest y0.cls index ref (T0 k).2.1 (T0 k).2.2.1 host ∈ lw_tbl) (hsame : ∀ x, s.fieldFound? (T0 k).1 (T0 k).2.1 (T0 k).2.2.1 = some x → s.fieldFound? ref (T0 k).2.1 (T0 k).2.2.1 = some x) (hfin : (T0 k).2.2.2 = false) (hty : ty0 k = ty) (hn : narrow ty v = v) (hfit : fits ty v = true) (hdg : decode cc pc = .ok (.putfield index, 3))
    (kk : ∀ (H1 : Heap) (locs1 : List Loc), zI Γ R s (zset g a (.inr (.inl (ci, fs.set k v)))) H1 locs1 cells slots → W p l e R s m args below meth c H1 locs1 cells slots Q (F0 m (pc + 3) ls rest)) : W p l e R s m args below meth c H locs cells slots Q (F0 m pc ls (v :: .ref a :: rest)) := by
  subst hty
  have hat := z_at hI hg h19
  have hts : ∀ w ∈ lw_all, w.before args s = true := fun w h => z_w X0.1 X0.2.1 h
  have hK := z_K X0.1 X0.2.1
  have hap := va_apart (own := y0.cls) hts fd.2.1 ty0 fd.2.2.1 fd.2.2.2 hK fd.1
  obtain ⟨r, h1, cell, q1, q2, q3, q4⟩ := hat.2.1
  have hr : r = (C, T0, N) := Option.some.inj (h1.symm.trans fd.1)
  subst hr
  obtain ⟨hS, hfc, kC, hkC, hkind⟩ := hK.1 ci _ fd.1
  obtain ⟨cf, kf, fi, f, hi, hsl⟩ := hS k hk
  have hlay := hts _ (fd.2.1 _ (u_in_lay hk))
  unfold u_lay at hlay
  rw [if_neg (by rw [hfin]; decide)] at hlay
  have hst := (u_facts hfc hkC (u_lays hts fd.2.1 hk) hi).1
  have h6 := u_store hfc hkC hkind hlay hi (fd.2.2.1 k hk) hn hfit
  refine va_WputK X0.2.2.1 X0.2.2.2.1 (f := f) X0.2.2.2.2.2.1 (z_wF X0.1 X0.2.1 hl) (hsame _ hi) hst (by rw [q2]; exact h6) q1 q3 (by rw [hsl]; exact k2_hasslot (q4 k hk)) rfl rfl hdg fun H' e1 e2 e3 => ?_
  rw [hsl] at e1 ⊢
  exact kk H' _ (hI.set q1 e1 (k2_slotsz _ _ _) e2 e3 hat.1 (z_atput hat.2 hlt q1 e1 ⟨_, fd.1, t_OB.to (V := updV (vp_V fs) k v) ⟨_, e1, q2, q3, t_set q4 hap hk v⟩ (fun j _ => vp_updV_set hlt v j)⟩))
/-- a final field, in its class's own constructor -/
theorem z_putF {a : Nat} {fs : List Value} {v : Value} {ty : FieldType} (X0 : zX Γ p l s m meth c y0 cc nL ret hh) (hI : zI Γ R s g H locs cells slots) (fd : zFD ci C T0 N ty0) (k : Nat) (hk : k < N) (h19 : ci ≠ 19) (hg : g.2.2.2.1 a = some (.inr (.inl (ci, fs)))) (hlt : k < fs.length) (hl : Cond.fieldLink y0.cls index ref (T0 k).2.1 (T0 k).2.2.1 ∈ lw_all) (hsame : ∀ x, s.fieldFound? (T0 k).1 (T0 k).2.1 (T0 k).2.2.1 = some x → s.fieldFound? ref (T0 k).2.1 (T0 k).2.2.1 = some x) (hfin : (T0 k).2.2.2 = true) (hin2 : y0.name = "<init>") (hdecl : (T0 k).1 = y0.cls) (hty : ty0 k = ty) (hn : narrow ty v = v) (hfit : fits ty v = true) (hdg : decode cc pc = .ok (.putfield index, 3))
    (kk : ∀ (H1 : Heap) (locs1 : List Loc), zI Γ R s (zset g a (.inr (.inl (ci, fs.set k v)))) H1 locs1 cells slots → W p l e R s m args below meth c H1 locs1 cells slots Q (F0 m (pc + 3) ls rest)) : W p l e R s m args below meth c H locs cells slots Q (F0 m pc ls (v :: .ref a :: rest)) := by
  subst hty
  have hat := z_at hI hg h19
  have hts : ∀ w ∈ lw_all, w.before args s = true := fun w h => z_w X0.1 X0.2.1 h
  have hK := z_K X0.1 X0.2.1
  have hap := va_apart (own := y0.cls) hts fd.2.1 ty0 fd.2.2.1 fd.2.2.2 hK fd.1
  have hown := X0.2.2.2.2.2.1
  obtain ⟨r, h1, cell, q1, q2, q3, q4⟩ := hat.2.1
  have hr : r = (C, T0, N) := Option.some.inj (h1.symm.trans fd.1)
  subst hr
  obtain ⟨hS, hfc, kC, hkC, hkind⟩ := hK.1 ci _ fd.1
  obtain ⟨cf, kf, fi, f, hi, hsl⟩ := hS k hk
  have hlay := hts _ (fd.2.1 _ (u_in_lay hk))
  unfold u_lay at hlay
  rw [if_pos hfin] at hlay
  have hst := (u_facts hfc hkC (u_lays hts fd.2.1 hk) hi).1
  have hcf : m.cls = cf := by
    obtain ⟨_, _, c', _, _, _, -, -, hf', -, -, -, hown2, -⟩ := Cond.laysFinal_spec hlay
    have e1 : c' = cf := by have := hi.symm.trans hf'; simp at this; exact this.1.symm
    rw [hdecl] at hown2
    rw [← e1]; exact Option.some.inj (hown.symm.trans hown2)
  have h6 := u_fits hfc hkC hkind (Or.inr hlay) hi (fd.2.2.1 k hk) hn hfit
  refine W.putFinK X0.2.2.1 X0.2.2.2.1 hown (hts _ hl) (hsame _ hi) hst hcf (X0.2.2.2.2.2.2.2.2.2.1.trans hin2) (by rw [q2]; exact h6) q1 q3 (by rw [hsl]; exact k2_hasslot (q4 k hk)) rfl rfl hdg fun H' e1 e2 e3 => ?_
  rw [hsl] at e1 ⊢
  exact kk H' _ (hI.set q1 e1 (k2_slotsz _ _ _) e2 e3 hat.1 (z_atput hat.2 hlt q1 e1 ⟨_, fd.1, t_OB.to (V := updV (vp_V fs) k v) ⟨_, e1, q2, q3, t_set q4 hap hk v⟩ (fun j _ => vp_updV_set hlt v j)⟩))
end ZROW
