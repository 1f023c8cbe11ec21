/-! System.arraycopy between arrays of one kind -/
section ZCOPY
variable {Γ : zG} {p : Program} {l : Launch} {e : Env} {R : Room} {s : State} {m : MethodId} {args : Array Value} {below : List Frame} {meth : Method} {c : Code} {H : Heap} {locs : List Loc} {cells slots pc : Nat} {ls : Array Slot} {rest : List Value} {g g1 : zH} {Q : State → Prop}
variable {y0 : MethodName} {cc : ByteArray} {nL index t : Nat} {ret : Option FieldType} {hh : List (Nat × Nat × Nat × Nat)} {sp dp n : Int32} {src dst : Option Nat} {ty : FieldType}
theorem zI.setL {a : Nat} {e' : zE} {cell cell' : Cell} {H' : Heap} {L : List Loc} (hI : zI Γ R s g H locs cells slots) (h1 : H[a]? = some cell) (h2 : H'[a]? = some cell') (hz : cell'.slots.size = cell.slots.size) (hs : H'.size = H.size) (oq : ∀ q, q ≠ a → H'[q]? = H[q]?) (hb : Γ.1.heap.size ≤ a) (hL : ∀ q ∈ L, q.base = a) (he : zat Γ a e' H') : zI Γ R s (zset g a e') H' (locs ++ L) cells slots := by
  obtain ⟨i1, i2, i3, i4, i5, i6⟩ := hI
  have hzz := zsz_set h1 h2 hz oq
  refine ⟨i1.set hs oq hb he, fun q hq => ?_, by omega, by omega, (by show H'.size + g.2.1 ≤ _; omega), (by show zsz H' + g.2.2.1 ≤ _; omega)⟩
  rcases List.mem_append.mp hq with h | h
  · exact i2 q h
  · rw [hL q h]; exact hb
theorem z_cp0 {n0 n1 a0 a : Nat} {f1 f2 : Nat → Value} {e' : zE} (X0 : zX Γ p l s m meth c y0 cc nL ret hh) (hI : zI Γ R s g H locs cells slots) (ht : ztys[t]? = some ty) (hc0 : H[a0]? = some (arrV (Γ.2.2.2.1 t) n0 f1)) (hc1 : H[a]? = some (arrV (Γ.2.2.2.1 t) n1 f2)) (hba : Γ.1.heap.size ≤ a)
    (hl : Cond.methodLink y0.cls index arraycopyName ∈ lw_all) (hnat : Cond.native arraycopyName ∈ lw_all) (hstat : Cond.static arraycopyName ∈ lw_all) (hini : Cond.initialized "java/lang/System" ∈ lw_all)
    (h1 : ¬ sp < 0) (h2 : ¬ dp < 0) (h3 : ¬ n < 0) (h4 : sp.toNatClampNeg + n.toNatClampNeg ≤ n0) (h5 : dp.toNatClampNeg + n.toNatClampNeg ≤ n1)
    (hv : ∀ (T : State) (vm' : Vm) (kA : Class) (comp : ClassId), T.heap = H → s.vm.Alike vm' → s.vm.classes[Γ.2.2.2.1 t]? = some kA → kA.kind = .array comp ty → ∀ i, i < n.toNatClampNeg → fits ty (f1 (sp.toNatClampNeg + i)) = true ∧ (T.setVm vm').takes comp (f1 (sp.toNatClampNeg + i)))
    (he : ∀ H1 : Heap, H1[a]? = some (arrV (Γ.2.2.2.1 t) n1 (va_cpy f1 f2 sp.toNatClampNeg dp.toNatClampNeg n.toNatClampNeg)) → zat Γ a e' H1)
    (hsz : ls.size = nL) (hW : (rest.map fun v => v.category).sum ≤ 8) (hR : 1 ≤ R.frames ∧ 8 + (nativeFrameWords "java/lang/System" "arraycopy" 5 + 11) ≤ R.locals) (hdg : decode cc pc = .ok (.invokestatic index, 3))
    (kk : ∀ (H1 : Heap) (locs1 : List Loc), zI Γ R s (zset g a e') H1 locs1 cells slots → W p l e R s m args below meth c H1 locs1 cells slots Q (F0 m (pc + 3) ls rest)) : W p l e R s m args below meth c H locs cells slots Q (F0 m pc ls (.int n :: .int dp :: .ref a :: .int sp :: .ref a0 :: rest)) := by
  have nn : ∀ z : Int32, ¬ z < 0 → z.toInt = (z.toNatClampNeg : Int) := by
    intro z hz
    have hz0 : (0 : Int) ≤ z.toInt := by
      have := Int32.not_lt.mp hz
      simpa using Int32.le_iff_toInt_le.mp this
    show z.toInt = ((z.toInt.toNat : Nat) : Int)
    omega
  have hG := X0.1
  have hw := X0.2.1
  intro T hT X
  obtain ⟨-, k0, hk0, cm0, hkk0⟩ := ((z_KA hG hw ht).2 0 _ rfl).1 n0 f1
  obtain ⟨vm', X', step⟩ := X.arraycopy X0.2.2.1 X0.2.2.2.2.2.1 (z_w hG hw hl) (z_w hG hw hnat) (z_w hG hw hstat) (z_w hG hw hini) (src := a0) (dst := a) (cs := arrV (Γ.2.2.2.1 t) n0 f1) (cd := arrV (Γ.2.2.2.1 t) n1 f2) (srcPos := sp) (destPos := dp) (n := n) (by rw [hT]; exact hc0) (by rw [hT]; exact hc1)
    (fun _ h => by cases h) (fun _ h => by cases h) (fun h => by cases h) (fun h => by cases h) hk0 hk0 hkk0 hkk0 (by cases hq : refKind ty <;> simp) h1 h2 h3
    (by rw [nn sp h1, nn n h3, arrV_size]; omega)
    (by rw [nn dp h2, nn n h3, arrV_size]; omega)
    (fun vm₁ hal i hi => by
      have e : (arrV (Γ.2.2.2.1 t) n0 f1).slots.getD (sp.toNatClampNeg + i) .null = f1 (sp.toNatClampNeg + i) := by
        rw [Array.getD_eq_getD_getElem?, arrV_read _ _ (by omega)]
        rfl
      rw [e]
      exact hv T vm₁ k0 cm0 hT hal hk0 hkk0 i hi)
    (g := F0 m pc ls (.int n :: .int dp :: .ref a :: .int sp :: .ref a0 :: rest)) rfl (hsz.trans X0.2.2.2.2.1.symm) (rest := rest) rfl (by rw [X0.2.2.2.1]; exact hdg) hR.1 (by show 2 * 0 + _ + _ ≤ _; have := hR.2; omega)
  have e1 : copied (arrV (Γ.2.2.2.1 t) n0 f1) (arrV (Γ.2.2.2.1 t) n1 f2) sp dp n = arrV (Γ.2.2.2.1 t) n1 (va_cpy f1 f2 sp.toNatClampNeg dp.toNatClampNeg n.toNatClampNeg) := va_copied (fun z => z) _ _ f1 f2 h4
  rw [e1] at X' step
  have hl9 : a < H.size := (Array.getElem?_eq_some_iff.mp hc1).1
  have hheap : ((T.setVm vm').setCell a (arrV (Γ.2.2.2.1 t) n1 (va_cpy f1 f2 sp.toNatClampNeg dp.toNatClampNeg n.toNatClampNeg))).heap = H.setIfInBounds a (arrV (Γ.2.2.2.1 t) n1 (va_cpy f1 f2 sp.toNatClampNeg dp.toNatClampNeg n.toNatClampNeg)) := by rw [← hT]; rfl
  have oq : ∀ q : Nat, q ≠ a → (H.setIfInBounds a (arrV (Γ.2.2.2.1 t) n1 (va_cpy f1 f2 sp.toNatClampNeg dp.toNatClampNeg n.toNatClampNeg)))[q]? = H[q]? := fun q hq => by simp [Array.getElem?_setIfInBounds, Ne.symm hq]
  have hself : (H.setIfInBounds a (arrV (Γ.2.2.2.1 t) n1 (va_cpy f1 f2 sp.toNatClampNeg dp.toNatClampNeg n.toNatClampNeg)))[a]? = some (arrV (Γ.2.2.2.1 t) n1 (va_cpy f1 f2 sp.toNatClampNeg dp.toNatClampNeg n.toNatClampNeg)) := by simp [Array.getElem?_setIfInBounds, hl9]
  obtain ⟨t9, a1, b1⟩ := kk _ _ (hI.setL hc1 hself (by rw [arrV_size, arrV_size]) (by simp) oq hba (fun q hq => by
      obtain ⟨z, -, hz⟩ := List.mem_map.mp hq
      rw [← hz]) (he _ hself)) _ hheap X'
  exact ⟨t9, step t9 a1, b1⟩
/-- a copy between arrays of kind t -/
def zcp (t : Nat) (ty : FieldType) (g : zH) (src : Option Nat) (sp : Int32) (dst : Option Nat) (dp n : Int32) : Option zH := match zar g src t, zar g dst t with
  | some (n0, .inl f), some (n1, .inl f1) => if ¬ sp < 0 ∧ ¬ dp < 0 ∧ ¬ n < 0 ∧ sp.toNatClampNeg + n.toNatClampNeg ≤ n0 ∧ dp.toNatClampNeg + n.toNatClampNeg ≤ n1 ∧ n1 ≠ 0 ∧ (List.range n.toNatClampNeg).all (fun i => fits ty (.int (f (sp.toNatClampNeg + i)))) = true then some (zset g (dst.getD 0) (.inl (t, n1, .inl (va_cpy f f1 sp.toNatClampNeg dp.toNatClampNeg n.toNatClampNeg)))) else none
  | some (n0, .inr (.inr (.inr (.inr f)))), some (n1, .inr (.inr (.inr (.inr f1)))) => if ty.isReference = true ∧ ¬ sp < 0 ∧ ¬ dp < 0 ∧ ¬ n < 0 ∧ sp.toNatClampNeg + n.toNatClampNeg ≤ n0 ∧ dp.toNatClampNeg + n.toNatClampNeg ≤ n1 ∧ n1 ≠ 0 ∧ (List.range n.toNatClampNeg).all (fun i => match f (sp.toNatClampNeg + i) with
      | none => true
      | some b => match g.2.2.2.1 b with
        | some (.inr (.inl o)) => zpr.contains (o.1, t)
        | _ => false) = true then some (zset g (dst.getD 0) (.inl (t, n1, .inr (.inr (.inr (.inr (va_cpy f f1 sp.toNatClampNeg dp.toNatClampNeg n.toNatClampNeg))))))) else none
  | _, _ => none
theorem z_cp (X0 : zX Γ p l s m meth c y0 cc nL ret hh) (hI : zI Γ R s g H locs cells slots) (ht : ztys[t]? = some ty) (hv : zcp t ty g src sp dst dp n = some g1)
    (hl : Cond.methodLink y0.cls index arraycopyName ∈ lw_all) (hnat : Cond.native arraycopyName ∈ lw_all) (hstat : Cond.static arraycopyName ∈ lw_all) (hini : Cond.initialized "java/lang/System" ∈ lw_all)
    (hsz : ls.size = nL) (hW : (rest.map fun v => v.category).sum ≤ 8) (hR : 1 ≤ R.frames ∧ 8 + (nativeFrameWords "java/lang/System" "arraycopy" 5 + 11) ≤ R.locals) (hdg : decode cc pc = .ok (.invokestatic index, 3))
    (kk : ∀ (H1 : Heap) (locs1 : List Loc), zI Γ R s g1 H1 locs1 cells slots → W p l e R s m args below meth c H1 locs1 cells slots Q (F0 m (pc + 3) ls rest)) : W p l e R s m args below meth c H locs cells slots Q (F0 m pc ls (.int n :: .int dp :: va_rf dst :: .int sp :: va_rf src :: rest)) := by
  unfold zcp at hv
  rcases hx : zar g src t with _ | ⟨n0, f | f | f | f | f⟩ <;> rw [hx] at hv <;> (try (dsimp only at hv; cases hv; done))
  · rcases hy : zar g dst t with _ | ⟨n1, f1 | f1 | f1 | f1 | f1⟩ <;> rw [hy] at hv <;> (try (dsimp only at hv; cases hv; done))
    dsimp only at hv
    obtain ⟨a0, rfl, q0⟩ := zar_spec hx
    obtain ⟨a, rfl, q1⟩ := zar_spec hy
    by_cases hc : ¬ sp < 0 ∧ ¬ dp < 0 ∧ ¬ n < 0 ∧ sp.toNatClampNeg + n.toNatClampNeg ≤ n0 ∧ dp.toNatClampNeg + n.toNatClampNeg ≤ n1 ∧ n1 ≠ 0 ∧ (List.range n.toNatClampNeg).all (fun i => fits ty (.int (f (sp.toNatClampNeg + i)))) = true
    · rw [if_pos hc] at hv
      cases hv
      obtain ⟨c1, c2, c3, c4, c5, c6, c7⟩ := hc
      have z0 := z_at0 hI q0
      have z1 := z_at hI q1 c6
      refine z_cp0 X0 hI ht (e' := .inl (t, n1, .inl (va_cpy f f1 sp.toNatClampNeg dp.toNatClampNeg n.toNatClampNeg))) (f1 := fun j => .int (f j)) (f2 := fun j => .int (f1 j)) z0.2 z1.2.2 z1.1 hl hnat hstat hini c1 c2 c3 c4 c5 (fun T vm' kA comp hT hal hk hkk i hi => ⟨?_, trivial⟩) (fun H1 h1 => ⟨⟨_, ht⟩, ?_⟩) hsz hW hR hdg kk
      · exact List.all_eq_true.mp c7 i (List.mem_range.mpr hi)
      · rw [h1, vp_cell_i]
        congr 2
        funext q
        unfold va_cpy
        by_cases hq : dp.toNatClampNeg ≤ q ∧ q < dp.toNatClampNeg + n.toNatClampNeg
        · rw [if_pos hq, if_pos hq]
        · rw [if_neg hq, if_neg hq]
    · rw [if_neg hc] at hv; cases hv
  · rcases hy : zar g dst t with _ | ⟨n1, f1 | f1 | f1 | f1 | f1⟩ <;> rw [hy] at hv <;> (try (dsimp only at hv; cases hv; done))
    dsimp only at hv
    obtain ⟨a0, rfl, q0⟩ := zar_spec hx
    obtain ⟨a, rfl, q1⟩ := zar_spec hy
    split at hv
    · rename_i hc
      cases hv
      obtain ⟨c0, c1, c2, c3, c4, c5, c6, c7⟩ := hc
      have z0 := z_at0 hI q0
      have z1 := z_at hI q1 c6
      refine z_cp0 X0 hI ht (e' := .inl (t, n1, .inr (.inr (.inr (.inr (va_cpy f f1 sp.toNatClampNeg dp.toNatClampNeg n.toNatClampNeg)))))) (f1 := fun j => va_rf (f j)) (f2 := fun j => va_rf (f1 j)) z0.2 z1.2.2 z1.1 hl hnat hstat hini c1 c2 c3 c4 c5 (fun T vm' kA comp hT hal hk hkk i hi => ?_) (fun H1 h1 => ⟨⟨_, ht⟩, ?_⟩) hsz hW hR hdg kk
      · have h9 := List.all_eq_true.mp c7 i (List.mem_range.mpr hi)
        cases hfi : f (sp.toNatClampNeg + i) with
        | none =>
          refine ⟨?_, trivial⟩
          rw [hfi] at h9
          exact (z_fitR ty c0 none).2
        | some b =>
          rw [hfi] at h9
          dsimp only at h9
          rcases hgb : g.2.2.2.1 b with _ | x | o | o <;> rw [hgb] at h9 <;> (try (dsimp only at h9; cases h9; done))
          obtain ⟨cv, kA9, kv, kcomp, comp9, ty9, t1, t2, k1, k2, k3, v1, v2, v3, v4⟩ := z_asg X0.1 X0.2.1 hI hgb h9
          cases hk.symm.trans k1
          cases hkk.symm.trans k2
          obtain ⟨kv', hkv', -⟩ := hal.2.2 _ _ v3
          obtain ⟨kc', hkc', -⟩ := hal.2.2 _ _ k3
          refine ⟨(z_fitR ty t2 (some b)).2, cv, (show T.heap[b]? = some cv by rw [hT]; exact v1), (fun q h => by rw [v2] at h; cases h), ⟨kv', hkv'⟩, ⟨kc', hkc'⟩, ?_⟩
          show vm'.assignable _ _ = true
          rw [hal.assignable]
          exact v4
      · rw [h1, vp_cell_q]
        congr 2
        funext q
        unfold va_cpy
        by_cases hq : dp.toNatClampNeg ≤ q ∧ q < dp.toNatClampNeg + n.toNatClampNeg
        · rw [if_pos hq, if_pos hq]
        · rw [if_neg hq, if_neg hq]
    · cases hv
end ZCOPY
