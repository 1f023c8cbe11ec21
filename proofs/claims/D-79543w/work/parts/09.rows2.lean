/-! arrays, new cells, ends, throws -/
theorem zar_spec {g : zH} {r : Option Nat} {t : Nat} {x : vp_A} (h : zar g r t = some x) : ∃ a, r = some a ∧ g.2.2.2.1 a = some (.inl (t, x)) := by
  unfold zar at h
  cases r with
  | none => cases h
  | some a =>
    dsimp only at h
    rcases hg : g.2.2.2.1 a with _ | y | o | o <;> rw [hg] at h <;> dsimp only at h
    · cases h
    · obtain ⟨t', x'⟩ := y
      by_cases hc : t' = t
      · rw [if_pos hc] at h
        cases h
        have hc : t' = t := hc
        subst hc
        exact ⟨a, rfl, hg⟩
      · rw [if_neg hc] at h
        cases h
    · cases h
    · cases h
theorem zal_spec {g : zH} {r : Option Nat} {t : Nat} {v : Int32} (h : zal g r t = some v) : ∃ a x, r = some a ∧ g.2.2.2.1 a = some (.inl (t, x)) ∧ v = Int32.ofNat x.1 := by
  unfold zal at h
  cases hx : zar g r t with
  | none => rw [hx] at h; cases h
  | some x =>
    rw [hx] at h
    obtain ⟨a, h1, h2⟩ := zar_spec hx
    exact ⟨a, x, h1, h2, (Option.some.inj h).symm⟩
theorem zaI_spec {g : zH} {r : Option Nat} {t : Nat} {i v : Int32} (h : zaI g r t i = some v) : ∃ a n f, r = some a ∧ g.2.2.2.1 a = some (.inl (t, n, .inl f)) ∧ vp_in i n ∧ v = f i.toNatClampNeg := by
  unfold zaI at h
  rcases hx : zar g r t with _ | ⟨n, f | f | f | f | f⟩ <;> rw [hx] at h <;> dsimp only at h <;> try (cases h; done)
  by_cases hc : i < 0 ∨ n ≤ i.toNatClampNeg
  · rw [if_pos hc] at h; cases h
  · rw [if_neg hc] at h
    obtain ⟨a, h1, h2⟩ := zar_spec hx
    exact ⟨a, n, f, h1, h2, hc, (Option.some.inj h).symm⟩
theorem zaJ_spec {g : zH} {r : Option Nat} {t : Nat} {i : Int32} {v : Int64} (h : zaJ g r t i = some v) : ∃ a n f, r = some a ∧ g.2.2.2.1 a = some (.inl (t, n, .inr (.inl f))) ∧ vp_in i n ∧ v = f i.toNatClampNeg := by
  unfold zaJ at h
  rcases hx : zar g r t with _ | ⟨n, f | f | f | f | f⟩ <;> rw [hx] at h <;> dsimp only at h <;> try (cases h; done)
  by_cases hc : i < 0 ∨ n ≤ i.toNatClampNeg
  · rw [if_pos hc] at h; cases h
  · rw [if_neg hc] at h
    obtain ⟨a, h1, h2⟩ := zar_spec hx
    exact ⟨a, n, f, h1, h2, hc, (Option.some.inj h).symm⟩
theorem zaD_spec {g : zH} {r : Option Nat} {t : Nat} {i : Int32} {v : UInt64} (h : zaD g r t i = some v) : ∃ a n f, r = some a ∧ g.2.2.2.1 a = some (.inl (t, n, .inr (.inr (.inr (.inl f))))) ∧ vp_in i n ∧ v = f i.toNatClampNeg := by
  unfold zaD at h
  rcases hx : zar g r t with _ | ⟨n, f | f | f | f | f⟩ <;> rw [hx] at h <;> dsimp only at h <;> try (cases h; done)
  by_cases hc : i < 0 ∨ n ≤ i.toNatClampNeg
  · rw [if_pos hc] at h; cases h
  · rw [if_neg hc] at h
    obtain ⟨a, h1, h2⟩ := zar_spec hx
    exact ⟨a, n, f, h1, h2, hc, (Option.some.inj h).symm⟩
theorem zaR_spec {g : zH} {r : Option Nat} {t : Nat} {i : Int32} {v : Option Nat} (h : zaR g r t i = some v) : ∃ a n f, r = some a ∧ g.2.2.2.1 a = some (.inl (t, n, .inr (.inr (.inr (.inr f))))) ∧ vp_in i n ∧ v = f i.toNatClampNeg := by
  unfold zaR at h
  rcases hx : zar g r t with _ | ⟨n, f | f | f | f | f⟩ <;> rw [hx] at h <;> dsimp only at h <;> try (cases h; done)
  by_cases hc : i < 0 ∨ n ≤ i.toNatClampNeg
  · rw [if_pos hc] at h; cases h
  · rw [if_neg hc] at h
    obtain ⟨a, h1, h2⟩ := zar_spec hx
    exact ⟨a, n, f, h1, h2, hc, (Option.some.inj h).symm⟩
theorem zsI_spec {ty : FieldType} {g g1 : zH} {r : Option Nat} {t : Nat} {i x : Int32} (h : zsI ty g r t i x = some g1) : ∃ a n f, r = some a ∧ g.2.2.2.1 a = some (.inl (t, n, .inl f)) ∧ vp_in i n ∧ g1 = zset g a (.inl (t, n, .inl (upd f i.toNatClampNeg (vp_nar ty x)))) := by
  unfold zsI at h
  rcases hx : zar g r t with _ | ⟨n, f | f | f | f | f⟩ <;> rw [hx] at h <;> dsimp only at h <;> try (cases h; done)
  by_cases hc : i < 0 ∨ n ≤ i.toNatClampNeg
  · rw [if_pos hc] at h; cases h
  · rw [if_neg hc] at h
    obtain ⟨a, rfl, h2⟩ := zar_spec hx
    exact ⟨a, n, f, rfl, h2, hc, (Option.some.inj h).symm⟩
theorem zsJ_spec {g g1 : zH} {r : Option Nat} {t : Nat} {i : Int32} {x : Int64} (h : zsJ g r t i x = some g1) : ∃ a n f, r = some a ∧ g.2.2.2.1 a = some (.inl (t, n, .inr (.inl f))) ∧ vp_in i n ∧ g1 = zset g a (.inl (t, n, .inr (.inl (vp_updL f i.toNatClampNeg x)))) := by
  unfold zsJ at h
  rcases hx : zar g r t with _ | ⟨n, f | f | f | f | f⟩ <;> rw [hx] at h <;> dsimp only at h <;> try (cases h; done)
  by_cases hc : i < 0 ∨ n ≤ i.toNatClampNeg
  · rw [if_pos hc] at h; cases h
  · rw [if_neg hc] at h
    obtain ⟨a, rfl, h2⟩ := zar_spec hx
    exact ⟨a, n, f, rfl, h2, hc, (Option.some.inj h).symm⟩
theorem zsD_spec {g g1 : zH} {r : Option Nat} {t : Nat} {i : Int32} {x : UInt64} (h : zsD g r t i x = some g1) : ∃ a n f, r = some a ∧ g.2.2.2.1 a = some (.inl (t, n, .inr (.inr (.inr (.inl f))))) ∧ vp_in i n ∧ g1 = zset g a (.inl (t, n, .inr (.inr (.inr (.inl (vf_upd f i.toNatClampNeg x)))))) := by
  unfold zsD at h
  rcases hx : zar g r t with _ | ⟨n, f | f | f | f | f⟩ <;> rw [hx] at h <;> dsimp only at h <;> try (cases h; done)
  by_cases hc : i < 0 ∨ n ≤ i.toNatClampNeg
  · rw [if_pos hc] at h; cases h
  · rw [if_neg hc] at h
    obtain ⟨a, rfl, h2⟩ := zar_spec hx
    exact ⟨a, n, f, rfl, h2, hc, (Option.some.inj h).symm⟩
theorem zsR_spec {g g1 : zH} {r : Option Nat} {t : Nat} {i : Int32} {v : Option Nat} (h : zsR g r t i v = some g1) : ∃ a n f, r = some a ∧ g.2.2.2.1 a = some (.inl (t, n, .inr (.inr (.inr (.inr f))))) ∧ vp_in i n ∧ zas g t v = true ∧ g1 = zset g a (.inl (t, n, .inr (.inr (.inr (.inr (va_up f i.toNatClampNeg v)))))) := by
  unfold zsR at h
  rcases hx : zar g r t with _ | ⟨n, f | f | f | f | f⟩ <;> rw [hx] at h <;> dsimp only at h <;> try (cases h; done)
  by_cases hc : i < 0 ∨ n ≤ i.toNatClampNeg ∨ zas g t v = false
  · rw [if_pos hc] at h; cases h
  · rw [if_neg hc] at h
    obtain ⟨a, rfl, h2⟩ := zar_spec hx
    refine ⟨a, n, f, rfl, h2, fun z => hc (z.elim Or.inl (fun z => Or.inr (Or.inl z))), ?_, (Option.some.inj h).symm⟩
    cases hz : zas g t v
    · exact absurd (Or.inr (Or.inr hz)) hc
    · rfl
theorem znA_spec {g g1 : zH} {t a : Nat} {i : Int32} {c0 : (Nat → Int32) ⊕ (Nat → Int64) ⊕ (Nat → UInt32) ⊕ (Nat → UInt64) ⊕ (Nat → Option Nat)} (h : znA g t i c0 = some (a, g1)) : ¬ i < 0 ∧ i.toNatClampNeg ≤ 65536 ∧ 1 ≤ g.2.1 ∧ i.toNatClampNeg ≤ g.2.2.1 ∧ a = g.1 ∧ g1 = zadd g i.toNatClampNeg (.inl (t, i.toNatClampNeg, c0)) := by
  unfold znA at h
  by_cases hc : ¬ i < 0 ∧ i.toNatClampNeg ≤ 65536
  · rw [if_pos hc] at h
    exact ⟨hc.1, hc.2, zN1_spec h⟩
  · rw [if_neg hc] at h; cases h
section ZROW2
variable {Γ : zG} {p : Program} {l : Launch} {e : Env} {R : Room} {s : State} {m : MethodId} {args : Array Value} {below : List Frame} {meth : Method} {c : Code} {H : Heap} {locs : List Loc} {cells slots pc : Nat} {ls : Array Slot} {rest : List Value} {g g1 : zH} {Q : State → Prop}
variable {y0 : MethodName} {cc : ByteArray} {nL index : Nat} {ret : Option FieldType} {hh : List (Nat × Nat × Nat × Nat)} {C host ref : String} {T0 : u_T} {N ci t k : Nat} {ty0 : Nat → FieldType} {r : Option Nat} {i : Int32}
theorem z_PA {a : Nat} {x : vp_A} (hI : zI Γ R s g H locs cells slots) (h2 : g.2.2.2.1 a = some (.inl (t, x))) : va_P Γ.2.2.1 zcl [(a, .inl (Γ.2.2.2.1 t, x))] H := z_P1 (q := (a, .inl (Γ.2.2.2.1 t, x))) (z_at0 hI h2).2
theorem z_alen {v : Int32} {ty : FieldType} (X0 : zX Γ p l s m meth c y0 cc nL ret hh) (hI : zI Γ R s g H locs cells slots) (ht : ztys[t]? = some ty) (hv : zal g r t = some v) (hdg : decode cc pc = .ok (.arraylength, 1))
    (kk : W p l e R s m args below meth c H locs cells slots Q (F0 m (pc + 1) ls (.int v :: rest))) : W p l e R s m args below meth c H locs cells slots Q (F0 m pc ls (va_rf r :: rest)) := by
  obtain ⟨a, x, rfl, h2, rfl⟩ := zal_spec hv
  exact va_alen X0.2.2.1 X0.2.2.2.1 (z_KA X0.1 X0.2.1 ht) (z_PA hI h2) 0 0 rfl rfl rfl hdg kk
theorem z_iald {v : Int32} (X0 : zX Γ p l s m meth c y0 cc nL ret hh) (hI : zI Γ R s g H locs cells slots) (ht : ztys[t]? = some .int) (hv : zaI g r t i = some v) (hdg : decode cc pc = .ok (.iaload, 1))
    (kk : W p l e R s m args below meth c H locs cells slots Q (F0 m (pc + 1) ls (.int v :: rest))) : W p l e R s m args below meth c H locs cells slots Q (F0 m pc ls (.int i :: va_rf r :: rest)) := by
  obtain ⟨a, n, f, rfl, h2, h3, rfl⟩ := zaI_spec hv
  exact va_iald X0.2.2.1 X0.2.2.2.1 (z_KA X0.1 X0.2.1 ht) (z_PA hI h2) 0 0 rfl rfl h3 hdg kk
theorem z_bald {v : Int32} (X0 : zX Γ p l s m meth c y0 cc nL ret hh) (hI : zI Γ R s g H locs cells slots) (ht : ztys[t]? = some .byte) (hv : zaI g r t i = some v) (hdg : decode cc pc = .ok (.baload, 1))
    (kk : W p l e R s m args below meth c H locs cells slots Q (F0 m (pc + 1) ls (.int v :: rest))) : W p l e R s m args below meth c H locs cells slots Q (F0 m pc ls (.int i :: va_rf r :: rest)) := by
  obtain ⟨a, n, f, rfl, h2, h3, rfl⟩ := zaI_spec hv
  exact va_bald X0.2.2.1 X0.2.2.2.1 (z_KA X0.1 X0.2.1 ht) (z_PA hI h2) 0 0 rfl rfl h3 hdg kk
theorem z_cald {v : Int32} (X0 : zX Γ p l s m meth c y0 cc nL ret hh) (hI : zI Γ R s g H locs cells slots) (ht : ztys[t]? = some .char) (hv : zaI g r t i = some v) (hdg : decode cc pc = .ok (.caload, 1))
    (kk : W p l e R s m args below meth c H locs cells slots Q (F0 m (pc + 1) ls (.int v :: rest))) : W p l e R s m args below meth c H locs cells slots Q (F0 m pc ls (.int i :: va_rf r :: rest)) := by
  obtain ⟨a, n, f, rfl, h2, h3, rfl⟩ := zaI_spec hv
  exact va_cald X0.2.2.1 X0.2.2.2.1 (z_KA X0.1 X0.2.1 ht) (z_PA hI h2) 0 0 rfl rfl h3 hdg kk
theorem z_lald {v : Int64} (X0 : zX Γ p l s m meth c y0 cc nL ret hh) (hI : zI Γ R s g H locs cells slots) (ht : ztys[t]? = some .long) (hv : zaJ g r t i = some v) (hdg : decode cc pc = .ok (.laload, 1))
    (kk : W p l e R s m args below meth c H locs cells slots Q (F0 m (pc + 1) ls (.long v :: rest))) : W p l e R s m args below meth c H locs cells slots Q (F0 m pc ls (.int i :: va_rf r :: rest)) := by
  obtain ⟨a, n, f, rfl, h2, h3, rfl⟩ := zaJ_spec hv
  exact va_lald X0.2.2.1 X0.2.2.2.1 (z_KA X0.1 X0.2.1 ht) (z_PA hI h2) 0 0 rfl rfl h3 hdg kk
theorem z_dald {v : UInt64} (X0 : zX Γ p l s m meth c y0 cc nL ret hh) (hI : zI Γ R s g H locs cells slots) (ht : ztys[t]? = some .double) (hv : zaD g r t i = some v) (hdg : decode cc pc = .ok (.daload, 1))
    (kk : W p l e R s m args below meth c H locs cells slots Q (F0 m (pc + 1) ls (.double v :: rest))) : W p l e R s m args below meth c H locs cells slots Q (F0 m pc ls (.int i :: va_rf r :: rest)) := by
  obtain ⟨a, n, f, rfl, h2, h3, rfl⟩ := zaD_spec hv
  exact va_dald X0.2.2.1 X0.2.2.2.1 (z_KA X0.1 X0.2.1 ht) (z_PA hI h2) 0 0 rfl rfl h3 hdg kk
theorem z_aald {v : Option Nat} {ty : FieldType} (X0 : zX Γ p l s m meth c y0 cc nL ret hh) (hI : zI Γ R s g H locs cells slots) (ht : ztys[t]? = some ty) (hr : ty.isReference = true) (hv : zaR g r t i = some v) (hdg : decode cc pc = .ok (.aaload, 1))
    (kk : W p l e R s m args below meth c H locs cells slots Q (F0 m (pc + 1) ls (va_rf v :: rest))) : W p l e R s m args below meth c H locs cells slots Q (F0 m pc ls (.int i :: va_rf r :: rest)) := by
  obtain ⟨a, n, f, rfl, h2, hin, rfl⟩ := zaR_spec hv
  have hlt : i.toNatClampNeg < n := Nat.not_le.mp fun q => hin (Or.inr q)
  exact W.aald (v := va_rf (f i.toNatClampNeg)) (ty := ty) X0.2.2.1 X0.2.2.2.1 (z_at0 hI h2).2 (((z_KA X0.1 X0.2.1 ht).2 0 _ rfl).1 n (fun j => va_rf (f j))) hr (fun q => by cases q) (by show ¬ (i < 0 ∨ (arrV _ _ _).slots.size ≤ _); rw [arrV_size]; exact hin) (by show (arrV _ _ _).slots[_]? = _; rw [arrV_read _ _ hlt]) rfl rfl hdg kk
theorem z_cellsz (cA : ClassId) (x : vp_A) : (vp_cell cA x).slots.size = x.1 := by
  obtain ⟨n, f | f | f | f | f⟩ := x <;> exact arrV_size _ _ _
theorem z_stI {a n : Nat} {f : Nat → Int32} {H1 : Heap} {v x' : Int32} {ty : FieldType} (ht : ∃ ty, ztys[t]? = some ty) (hx : Value.int x' = .int v) (e1 : H1[a]? = some ((arrV (Γ.2.2.2.1 t) n (fun j => .int (f j))).setSlot i.toNatClampNeg (.int x'))) : zat Γ a (.inl (t, n, .inl (upd f i.toNatClampNeg v))) H1 := by
  refine ⟨ht, ?_⟩
  rw [e1, vp_cell_i, arrV_store]
  congr 2
  funext q
  by_cases hq : q = i.toNatClampNeg
  · subst hq; simp [updV, upd]; exact Value.int.inj hx
  · simp [updV, upd, hq]
theorem z_iast {x : Int32} (X0 : zX Γ p l s m meth c y0 cc nL ret hh) (hI : zI Γ R s g H locs cells slots) (ht : ztys[t]? = some .int) (hv : zsI .int g r t i x = some g1) (hdg : decode cc pc = .ok (.iastore, 1))
    (kk : ∀ (H1 : Heap) (locs1 : List Loc), zI Γ R s g1 H1 locs1 cells slots → W p l e R s m args below meth c H1 locs1 cells slots Q (F0 m (pc + 1) ls rest)) : W p l e R s m args below meth c H locs cells slots Q (F0 m pc ls (.int x :: .int i :: va_rf r :: rest)) := by
  obtain ⟨a, n, f, rfl, h2, hin, rfl⟩ := zsI_spec hv
  have h9 := z_at hI h2 (fun h0 => hin (Or.inr (by have h0 : n = 0 := h0; omega)))
  have hc : H[a]? = some (arrV (Γ.2.2.2.1 t) n (fun j => .int (f j))) := h9.2.2
  refine W.iast X0.2.2.1 X0.2.2.2.1 hc (((z_KA X0.1 X0.2.1 ht).2 0 _ rfl).1 n (fun j => .int (f j))) (fun q => by cases q) (by rw [arrV_size]; exact hin) rfl rfl hdg fun H1 e1 z oq => ?_
  exact kk H1 _ (hI.set hc e1 (k2_slotsz _ _ _) z oq h9.1 (z_stI (ty := .int) ⟨_, ht⟩ rfl e1))
theorem z_bast {x : Int32} (X0 : zX Γ p l s m meth c y0 cc nL ret hh) (hI : zI Γ R s g H locs cells slots) (ht : ztys[t]? = some .byte) (hv : zsI .byte g r t i x = some g1) (hdg : decode cc pc = .ok (.bastore, 1))
    (kk : ∀ (H1 : Heap) (locs1 : List Loc), zI Γ R s g1 H1 locs1 cells slots → W p l e R s m args below meth c H1 locs1 cells slots Q (F0 m (pc + 1) ls rest)) : W p l e R s m args below meth c H locs cells slots Q (F0 m pc ls (.int x :: .int i :: va_rf r :: rest)) := by
  obtain ⟨a, n, f, rfl, h2, hin, rfl⟩ := zsI_spec hv
  have h9 := z_at hI h2 (fun h0 => hin (Or.inr (by have h0 : n = 0 := h0; omega)))
  have hc : H[a]? = some (arrV (Γ.2.2.2.1 t) n (fun j => .int (f j))) := h9.2.2
  refine W.bast X0.2.2.1 X0.2.2.2.1 hc (((z_KA X0.1 X0.2.1 ht).2 0 _ rfl).1 n (fun j => .int (f j))) (fun q => by cases q) (by rw [arrV_size]; exact hin) rfl rfl hdg fun H1 e1 z oq => ?_
  exact kk H1 _ (hI.set hc e1 (k2_slotsz _ _ _) z oq h9.1 (z_stI (ty := .byte) ⟨_, ht⟩ rfl e1))
theorem z_cast {x : Int32} (X0 : zX Γ p l s m meth c y0 cc nL ret hh) (hI : zI Γ R s g H locs cells slots) (ht : ztys[t]? = some .char) (hv : zsI .char g r t i x = some g1) (hdg : decode cc pc = .ok (.castore, 1))
    (kk : ∀ (H1 : Heap) (locs1 : List Loc), zI Γ R s g1 H1 locs1 cells slots → W p l e R s m args below meth c H1 locs1 cells slots Q (F0 m (pc + 1) ls rest)) : W p l e R s m args below meth c H locs cells slots Q (F0 m pc ls (.int x :: .int i :: va_rf r :: rest)) := by
  obtain ⟨a, n, f, rfl, h2, hin, rfl⟩ := zsI_spec hv
  have h9 := z_at hI h2 (fun h0 => hin (Or.inr (by have h0 : n = 0 := h0; omega)))
  have hc : H[a]? = some (arrV (Γ.2.2.2.1 t) n (fun j => .int (f j))) := h9.2.2
  refine W.cast X0.2.2.1 X0.2.2.2.1 hc (((z_KA X0.1 X0.2.1 ht).2 0 _ rfl).1 n (fun j => .int (f j))) (fun q => by cases q) (by rw [arrV_size]; exact hin) rfl rfl hdg fun H1 e1 z oq => ?_
  exact kk H1 _ (hI.set hc e1 (k2_slotsz _ _ _) z oq h9.1 (z_stI (ty := .char) ⟨_, ht⟩ rfl e1))
theorem z_last {x : Int64} (X0 : zX Γ p l s m meth c y0 cc nL ret hh) (hI : zI Γ R s g H locs cells slots) (ht : ztys[t]? = some .long) (hv : zsJ g r t i x = some g1) (hdg : decode cc pc = .ok (.lastore, 1))
    (kk : ∀ (H1 : Heap) (locs1 : List Loc), zI Γ R s g1 H1 locs1 cells slots → W p l e R s m args below meth c H1 locs1 cells slots Q (F0 m (pc + 1) ls rest)) : W p l e R s m args below meth c H locs cells slots Q (F0 m pc ls (.long x :: .int i :: va_rf r :: rest)) := by
  obtain ⟨a, n, f, rfl, h2, hin, rfl⟩ := zsJ_spec hv
  have h9 := z_at hI h2 (fun h0 => hin (Or.inr (by have h0 : n = 0 := h0; omega)))
  have hc : H[a]? = some (arrV (Γ.2.2.2.1 t) n (fun j => .long (f j))) := h9.2.2
  refine W.last X0.2.2.1 X0.2.2.2.1 hc (((z_KA X0.1 X0.2.1 ht).2 0 _ rfl).1 n (fun j => .long (f j))) (fun q => by cases q) (by rw [arrV_size]; exact hin) rfl rfl hdg fun H1 e1 z oq => ?_
  refine kk H1 _ (hI.set hc e1 (k2_slotsz _ _ _) z oq h9.1 ⟨⟨_, ht⟩, ?_⟩)
  rw [e1, vp_cell_l, arrV_store]
  congr 2
  funext q
  by_cases hq : q = i.toNatClampNeg
  · subst hq; simp [updV, vp_updL]
  · simp [updV, vp_updL, hq]
theorem z_dast {x : UInt64} (X0 : zX Γ p l s m meth c y0 cc nL ret hh) (hI : zI Γ R s g H locs cells slots) (ht : ztys[t]? = some .double) (hv : zsD g r t i x = some g1) (hdg : decode cc pc = .ok (.dastore, 1))
    (kk : ∀ (H1 : Heap) (locs1 : List Loc), zI Γ R s g1 H1 locs1 cells slots → W p l e R s m args below meth c H1 locs1 cells slots Q (F0 m (pc + 1) ls rest)) : W p l e R s m args below meth c H locs cells slots Q (F0 m pc ls (.double x :: .int i :: va_rf r :: rest)) := by
  obtain ⟨a, n, f, rfl, h2, hin, rfl⟩ := zsD_spec hv
  have h9 := z_at hI h2 (fun h0 => hin (Or.inr (by have h0 : n = 0 := h0; omega)))
  have hc : H[a]? = some (arrV (Γ.2.2.2.1 t) n (fun j => .double (f j))) := h9.2.2
  refine W.dast X0.2.2.1 X0.2.2.2.1 hc (((z_KA X0.1 X0.2.1 ht).2 0 _ rfl).1 n (fun j => .double (f j))) (fun q => by cases q) (by rw [arrV_size]; exact hin) rfl rfl hdg fun H1 e1 z oq => ?_
  refine kk H1 _ (hI.set hc e1 (k2_slotsz _ _ _) z oq h9.1 ⟨⟨_, ht⟩, ?_⟩)
  rw [e1, vp_cell_d, arrV_store]
  congr 2
  funext q
  by_cases hq : q = i.toNatClampNeg
  · subst hq; simp [updV, vf_upd]
  · simp [updV, vf_upd, hq]
/-- a new object -/
theorem z_new {fs : List Value} {a : Nat} (X0 : zX Γ p l s m meth c y0 cc nL ret hh) (hI : zI Γ R s g H locs cells slots) (fd : zFD ci C T0 N ty0) (hfs : ∀ j, j < N → defaultValue (ty0 j) = vp_V fs j) (hv : zN1 g N (.inr (.inl (ci, fs))) = some (a, g1)) (hcl : Cond.classLink y0.cls index C ∈ lw_all) (hins : Cond.instantiable C N ∈ lw_all) (hini : Cond.initialized C ∈ lw_all) (hdg : decode cc pc = .ok (.new index, 3))
    (kk : ∀ (H1 : Heap) (c1 n1 : Nat), zI Γ R s g1 H1 locs c1 n1 → W p l e R s m args below meth c H1 locs c1 n1 Q (F0 m (pc + 3) ls (va_rf (some a) :: rest))) : W p l e R s m args below meth c H locs cells slots Q (F0 m pc ls rest) := by
  obtain ⟨b1, b2, rfl, rfl⟩ := zN1_spec hv
  have hp := z_pre hI
  have hsz : H.size = g.1 := hI.1.1
  have hts : ∀ w ∈ lw_all, w.before args s = true := fun w h => z_w X0.1 X0.2.1 h
  have hKn := (z_K X0.1 X0.2.1).1 ci _ fd.1
  refine W.newc X0.2.2.1 X0.2.2.2.1 X0.2.2.2.2.2.1 (hts _ hcl) (hts _ hins) (hts _ hini) rfl hdg (by omega) (by omega) fun cC kC f1 f2 f3 f4 => ?_
  have hcC : cC = Γ.2.2.1.1 ci := Option.some.inj (f1.symm.trans hKn.2.1)
  subst hcC
  have e1 : (H.push (blank (Γ.2.2.1.1 ci) kC))[H.size]? = some (blank (Γ.2.2.1.1 ci) kC) := Array.getElem?_push_size
  have o1 : ∀ q : Nat, q < H.size → (H.push (blank (Γ.2.2.1.1 ci) kC))[q]? = H[q]? := fun q hq => by rw [Array.getElem?_push, if_neg (Nat.ne_of_lt hq)]
  have hbz : (blank (Γ.2.2.1.1 ci) kC).slots.size = N := by simp [blank, f4]
  have h8 := hI.add (n := N) (e' := .inr (.inl (ci, fs))) e1 (by simp) o1 (by omega) b1 b2 ⟨⟨_, fd.1, (u_born ty0 hts fd.2.1 hKn f2 e1 fd.2.2.1).to hfs⟩, fun _ => ⟨_, e1, rfl⟩⟩
  rw [hbz] at h8
  rw [hsz]
  exact kk _ _ _ h8
theorem z_defI (n : Nat) (cA : ClassId) : ({ cls := cA, slots := Array.replicate n (.int 0), vm := .none } : Cell) = vp_cell cA (n, .inl (fun _ => 0)) := arrV_new _ _ _
/-- a new array of numbers: the contents c0 are the default -/
theorem z_newa {atype : ArrayType} {ty : FieldType} {a : Nat} {c0 : (Nat → Int32) ⊕ (Nat → Int64) ⊕ (Nat → UInt32) ⊕ (Nat → UInt64) ⊕ (Nat → Option Nat)} (X0 : zX Γ p l s m meth c y0 cc nL ret hh) (hI : zI Γ R s g H locs cells slots) (ht : ztys[t]? = some ty) (hty : newarray.typeOf atype = ty) (hno : ∀ C, ty ≠ .object C) (harr : Cond.arrayClass (newarray.typeOf atype) ∈ lw_all) (hc0 : ∀ (n : Nat) (cA : ClassId), ({ cls := cA, slots := Array.replicate n (defaultValue ty), vm := .none } : Cell) = vp_cell cA (n, c0)) (hv : znA g t i c0 = some (a, g1)) (hdg : decode cc pc = .ok (.newarray atype, 2))
    (kk : ∀ (H1 : Heap) (c1 n1 : Nat), zI Γ R s g1 H1 locs c1 n1 → W p l e R s m args below meth c H1 locs c1 n1 Q (F0 m (pc + 2) ls (va_rf (some a) :: rest))) : W p l e R s m args below meth c H locs cells slots Q (F0 m pc ls (.int i :: rest)) := by
  obtain ⟨b1, b2, b3, b4, rfl, rfl⟩ := znA_spec hv
  subst hty
  have hp := z_pre hI
  have hsz : H.size = g.1 := hI.1.1
  refine W.newa X0.2.2.1 X0.2.2.2.1 (z_w X0.1 X0.2.1 harr) rfl hdg rfl b1 ?_ (by omega) (by omega) fun cA kA comp f1 f2 f3 => ?_
  · have : componentBytes (newarray.typeOf atype) ≤ 8 := by cases atype <;> decide
    exact Nat.le_trans (Nat.mul_le_mul b2 this) (by decide)
  · have hcA : cA = Γ.2.2.2.1 t := by
      have h2 := ((X0.1).2.2.1 t _ ht).2.moved X0.2.1.alike
      have h3 : s.vm.findClass ("[" ++ (newarray.typeOf atype).toString) = some (Γ.2.2.2.1 t) := by cases atype <;> exact h2
      exact Option.some.inj (f1.symm.trans h3)
    subst hcA
    rw [hc0]
    have e1 : (H.push (vp_cell (Γ.2.2.2.1 t) (i.toNatClampNeg, c0)))[H.size]? = some (vp_cell (Γ.2.2.2.1 t) (i.toNatClampNeg, c0)) := Array.getElem?_push_size
    have o1 : ∀ q : Nat, q < H.size → (H.push (vp_cell (Γ.2.2.2.1 t) (i.toNatClampNeg, c0)))[q]? = H[q]? := fun q hq => by rw [Array.getElem?_push, if_neg (Nat.ne_of_lt hq)]
    have h8 := hI.add (n := i.toNatClampNeg) (e' := .inl (t, i.toNatClampNeg, c0)) e1 (by simp) o1 (by rw [z_cellsz]; exact Nat.le_refl _) b3 b4 ⟨⟨_, ht⟩, e1⟩
    rw [z_cellsz] at h8
    rw [hsz]
    exact kk _ _ _ h8
/-- a new array of references -/
theorem z_anew {a : Nat} (X0 : zX Γ p l s m meth c y0 cc nL ret hh) (hI : zI Γ R s g H locs cells slots) (ht : ztys[t]? = some (.object C)) (hcl : Cond.classLink y0.cls index C ∈ lw_all) (hov : Cond.arrayOver (.object C) ∈ lw_tbl) (hv : znA g t i (.inr (.inr (.inr (.inr fun _ => none)))) = some (a, g1)) (hdg : decode cc pc = .ok (.anewarray index, 3))
    (kk : ∀ (H1 : Heap) (c1 n1 : Nat), zI Γ R s g1 H1 locs c1 n1 → W p l e R s m args below meth c H1 locs c1 n1 Q (F0 m (pc + 3) ls (va_rf (some a) :: rest))) : W p l e R s m args below meth c H locs cells slots Q (F0 m pc ls (.int i :: rest)) := by
  obtain ⟨b1, b2, b3, b4, rfl, rfl⟩ := znA_spec hv
  have hp := z_pre hI
  have hsz : H.size = g.1 := hI.1.1
  refine W.anew X0.2.2.1 X0.2.2.2.1 X0.2.2.2.2.2.1 (z_w X0.1 X0.2.1 hcl) (va_AO.use ((va_AO.of (X0.1.1 _ hov)).moved X0.2.1.alike)) rfl hdg rfl b1 (by omega) (by omega) (by omega) fun cA kA comp f1 f2 f3 f4 => ?_
  have hcA : cA = Γ.2.2.2.1 t := by
    obtain ⟨_, _, -, -, -, h3⟩ := ((X0.1).2.2.1 t _ ht).2.moved X0.2.1.alike
    exact Option.some.inj (f1.symm.trans h3)
  subst hcA
  have hcc : ({ cls := Γ.2.2.2.1 t, slots := Array.replicate i.toNatClampNeg .null, vm := .none } : Cell) = vp_cell (Γ.2.2.2.1 t) (i.toNatClampNeg, .inr (.inr (.inr (.inr fun _ => none)))) := by
    rw [arrV_new]; rfl
  rw [hcc]
  have e1 : (H.push (vp_cell (Γ.2.2.2.1 t) (i.toNatClampNeg, .inr (.inr (.inr (.inr fun _ => none))))))[H.size]? = some (vp_cell (Γ.2.2.2.1 t) (i.toNatClampNeg, .inr (.inr (.inr (.inr fun _ => none))))) := Array.getElem?_push_size
  have o1 : ∀ q : Nat, q < H.size → (H.push (vp_cell (Γ.2.2.2.1 t) (i.toNatClampNeg, .inr (.inr (.inr (.inr fun _ => none))))))[q]? = H[q]? := fun q hq => by rw [Array.getElem?_push, if_neg (Nat.ne_of_lt hq)]
  have h8 := hI.add (n := i.toNatClampNeg) (e' := .inl (t, i.toNatClampNeg, .inr (.inr (.inr (.inr fun _ => none))))) e1 (by simp) o1 (by rw [z_cellsz]; exact Nat.le_refl _) b3 b4 ⟨⟨_, ht⟩, e1⟩
  rw [z_cellsz] at h8
  rw [hsz]
  exact kk _ _ _ h8
end ZROW2
