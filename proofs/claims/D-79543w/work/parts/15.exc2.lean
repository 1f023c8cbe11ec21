/-! exceptions of the JDK as objects: 'new E()' at once (the proof follows the kit's vx_make0) -/
def zxb (X : String) (names : List String) : List Cond := Bundle.throwableAtoms ++ Bundle.chain0Atoms X names ++ [.instantiable X 6, .castable X X, .selects X Bundle.tFill0 Bundle.tFill0, .selects X Bundle.tFill Bundle.tFill, .lays X Bundle.tN "cause" "Ljava/lang/Throwable;", .lays X Bundle.tN "stackTrace" Bundle.steD, .lays X Bundle.tN "suppressedExceptions" Bundle.listD, .lays X Bundle.tN "detailMessage" "Ljava/lang/String;", .fieldLink Bundle.tN 198 Bundle.tN "backtrace" "Ljava/lang/Object;", .lays Bundle.tN Bundle.tN "backtrace" "Ljava/lang/Object;", .lays X Bundle.tN "backtrace" "Ljava/lang/Object;"]
def zxn : List String := ["java/lang/RuntimeException", "java/lang/Exception"]
/-- what the tables say of such a class -/
def zEX (X : String) : Prop := Bundle.fit X = true ∧ (∀ w ∈ ((zxb X zxn).filter vx_no).filter goodWord, w ∈ lw_all) ∧ (∀ w ∈ ((zxb X zxn).filter vx_no).filter (fun w => !goodWord w), w ∈ [Cond.declares (Bundle.init0 "java/lang/RuntimeException"), Cond.declares (Bundle.init0 "java/lang/Exception"), Cond.declares (Bundle.init0 "java/lang/Throwable"), Cond.castable X X]) ∧ (∀ w ∈ (zxb X zxn).filter vx_no, vx_ot w = true) ∧ Cond.castable X X ∈ lw_tbl ∧ Cond.initialized X ∈ lw_all
theorem zx_fit : ∀ n ∈ zxn, Bundle.fit n = true := by decide +kernel
theorem zx_mem {own X : String} {ic : Nat} {names : List String} {w : Cond} (h : w ∈ vx_at0 own ic X names) : w = .methodLink own ic (Bundle.init0 X) ∨ w ∈ (zxb X names).filter vx_no := by
  unfold vx_at0 at h
  obtain ⟨h1, h2⟩ := List.mem_filter.mp h
  unfold Bundle.ownAtoms0 at h1
  rcases List.mem_append.mp h1 with h1 | h1
  · exact Or.inr (List.mem_filter.mpr ⟨List.mem_append_left _ h1, h2⟩)
  · rcases List.mem_cons.mp h1 with h1 | h1
    · exact Or.inl h1
    · right
      refine List.mem_filter.mpr ⟨List.mem_append_right _ ?_, h2⟩
      simp only [List.mem_cons, List.not_mem_nil, or_false] at h1 ⊢
      rcases h1 with h | h | h | h | h | h | h | h | h | h | h | h | h
      · exact Or.inl h
      · exact Or.inr (Or.inl h)
      · exact Or.inr (Or.inr (Or.inl h))
      · exact Or.inr (Or.inr (Or.inr (Or.inl h)))
      · exact Or.inr (Or.inr (Or.inr (Or.inr (Or.inl h))))
      · exact Or.inr (Or.inr (Or.inr (Or.inr (Or.inr (Or.inl h)))))
      · exact Or.inr (Or.inr (Or.inr (Or.inr (Or.inr (Or.inr (Or.inl h))))))
      · exact Or.inr (Or.inr (Or.inr (Or.inr (Or.inr (Or.inr (Or.inr (Or.inl h)))))))
      · rw [h] at h2; exact absurd h2 (by decide)
      · rw [h] at h2; exact absurd h2 (by decide)
      · exact Or.inr (Or.inr (Or.inr (Or.inr (Or.inr (Or.inr (Or.inr (Or.inr (Or.inl h))))))))
      · exact Or.inr (Or.inr (Or.inr (Or.inr (Or.inr (Or.inr (Or.inr (Or.inr (Or.inr (Or.inl h)))))))))
      · exact Or.inr (Or.inr (Or.inr (Or.inr (Or.inr (Or.inr (Or.inr (Or.inr (Or.inr (Or.inr h)))))))))

theorem zex20 : zEX "java/lang/IndexOutOfBoundsException" := ⟨by decide +kernel, lw_in _ [99, 196, 205, 217, 220, 222, 197, 198, 146, 147, 199, 204, 218, 460, 186, 461, 188, 462, 190, 200, 202, 192, 1142, 1143, 1144, 864, 864, 865, 866, 867, 867, 868, 869, 197, 1133, 1135, 213, 1136, 1137, 1138, 1139, 458, 194, 1140] (by decide +kernel) (by decide +kernel), by decide +kernel, by decide +kernel, q1134, q119⟩
theorem zex21 : zEX "java/lang/IllegalArgumentException" := ⟨by decide +kernel, lw_in _ [99, 196, 205, 217, 220, 222, 197, 198, 146, 147, 199, 204, 218, 460, 186, 461, 188, 462, 190, 200, 202, 192, 1152, 1153, 1154, 864, 864, 865, 866, 867, 867, 868, 869, 197, 175, 183, 184, 185, 187, 189, 191, 458, 194, 193] (by decide +kernel) (by decide +kernel), by decide +kernel, by decide +kernel, q176, q102⟩
theorem zex22 : zEX "java/lang/IllegalStateException" := ⟨by decide +kernel, lw_in _ [99, 196, 205, 217, 220, 222, 197, 198, 146, 147, 199, 204, 218, 460, 186, 461, 188, 462, 190, 200, 202, 192, 1789, 1790, 1791, 864, 864, 865, 866, 867, 867, 868, 869, 197, 1187, 1189, 212, 1190, 1191, 1192, 1193, 458, 194, 1194] (by decide +kernel) (by decide +kernel), by decide +kernel, by decide +kernel, q1188, q128⟩
theorem zex23 : zEX "java/util/NoSuchElementException" := ⟨by decide +kernel, lw_in _ [99, 196, 205, 217, 220, 222, 197, 198, 146, 147, 199, 204, 218, 460, 186, 461, 188, 462, 190, 200, 202, 192, 861, 862, 863, 864, 864, 865, 866, 867, 867, 868, 869, 197, 852, 854, 216, 855, 856, 857, 858, 458, 194, 859] (by decide +kernel) (by decide +kernel), by decide +kernel, by decide +kernel, q853, q125⟩
theorem zex24 : zEX "java/lang/UnsupportedOperationException" := ⟨by decide +kernel, lw_in _ [99, 196, 205, 217, 220, 222, 197, 198, 146, 147, 199, 204, 218, 460, 186, 461, 188, 462, 190, 200, 202, 192, 1243, 1244, 1245, 864, 864, 865, 866, 867, 867, 868, 869, 197, 1234, 1236, 215, 1237, 1238, 1239, 1240, 458, 194, 1241] (by decide +kernel) (by decide +kernel), by decide +kernel, by decide +kernel, q1235, q129⟩
theorem zex25 : zEX "java/lang/ArithmeticException" := ⟨by decide +kernel, lw_in _ [99, 196, 205, 217, 220, 222, 197, 198, 146, 147, 199, 204, 218, 460, 186, 461, 188, 462, 190, 200, 202, 192, 2125, 2126, 2127, 864, 864, 865, 866, 867, 867, 868, 869, 197, 2102, 2114, 210, 2108, 2109, 2111, 2107, 458, 194, 2106] (by decide +kernel) (by decide +kernel), by decide +kernel, by decide +kernel, q2113, q139⟩
section ZEXC
variable {Γ : zG} {p : Program} {l : Launch} {e : Env} {R : Room} {s : State} {m : MethodId} {args : Array Value} {below : List Frame} {meth : Method} {c : Code} {H : Heap} {locs : List Loc} {cells slots pc : Nat} {ls : Array Slot} {rest : List Value} {g g1 : zH} {Q : State → Prop}
variable {y0 : MethodName} {cc : ByteArray} {nL ik ic ci a : Nat} {ret : Option FieldType} {hh : List (Nat × Nat × Nat × Nat)} {E9 : String} {T0 : u_T}
theorem zx_before (hG : zOK Γ l) (hw : Γ.1.WarmedH s.vm) (hE : zEX E9) {own : String} (hml : Cond.methodLink own ic (Bundle.init0 E9) ∈ lw_all) : ∀ w ∈ vx_at0 own ic E9 zxn, w.before args s = true := by
  intro w hw'
  rcases zx_mem hw' with rfl | h
  · exact z_w hG hw hml
  · by_cases g : goodWord w = true
    · exact z_w hG hw (hE.2.1 w (List.mem_filter.mpr ⟨h, g⟩))
    · have h9 := hE.2.2.1 w (List.mem_filter.mpr ⟨h, by simpa using g⟩)
      have hdec : ∀ y : MethodName, Cond.declares y ∈ lw_tbl → (Cond.declares y).before args s = true := fun y hy => by
        have h8 : (Cond.declares y).before Γ.2.1 (Γ.1.setVm s.vm) = true := by rw [Cond.declares_setVm hw.alike]; exact hG.1 _ hy
        exact va_tabs (u := Γ.1.setVm s.vm) rfl rfl h8
      simp only [List.mem_cons, List.not_mem_nil, or_false] at h9
      rcases h9 with rfl | rfl | rfl | rfl
      · exact hdec _ q177
      · exact hdec _ q179
      · exact hdec _ q181
      · exact z_wC hG hw hE.2.2.2.2.1
theorem zx_hgood (hE : zEX E9) {own : String} : ∀ w ∈ Cond.classLink own ik E9 :: Cond.initialized E9 :: vx_at0 own ic E9 zxn, vx_ot w = true := by
  intro w hw
  rcases List.mem_cons.mp hw with rfl | hw
  · rfl
  · rcases List.mem_cons.mp hw with rfl | hw
    · rfl
    · rcases zx_mem hw with rfl | h
      · rfl
      · exact hE.2.2.2.1 w h
theorem zx_st (k : Nat) {q : String × String × String} (X0 : zX Γ p l s m meth c y0 cc nL ret hh) (hk : zsts[k]? = some q) (hls : Cond.laysStatic q.1 q.2.1 q.2.2 ∈ lw_tbl) : vx_Zq q.1 q.2.1 q.2.2 (fun q => Γ.1.heap.size ≤ q) s s.heap := by
  have h1 := X0.1.2.2.2.2.2.1 k q hk
  have hlay := X0.1.1 _ hls
  have hA : ∀ a : Nat, a < Γ.1.heap.size → ¬ Γ.1.heap.size ≤ a := fun a h => Nat.not_le.mpr h
  have h2 : vx_Zq q.1 q.2.1 q.2.2 (fun q => Γ.1.heap.size ≤ q) Γ.1 Γ.1.heap := by
    refine ⟨?_, ?_⟩
    · cases hv : Γ.2.2.2.2.2 k with
      | none => rw [hv] at h1; exact Or.inl h1
      | some t => rw [hv] at h1; exact Or.inr ⟨t, h1⟩
    · obtain ⟨c, k, i, f, a, cell, h1, h2, h3, h4, h5, h6, h7, h8, h9⟩ := Cond.laysStatic_spec hlay
      exact ⟨c, k, i, f, a, cell, h1, h2, h3, h4, h5, h6, h7, h8, h9, hA a (Array.getElem?_eq_some_iff.mp h5).1⟩
  have h3 := vx_Zq.moved X0.2.1.alike h2
  exact vx_Zq.kept h3 (fun a ha _ => X0.2.2.2.2.2.2.2.2.2.2.2.2 a ha)
/-- 'new E()' of an exception of the JDK that carries no text -/
theorem z_exc (X0 : zX Γ p l s m meth c y0 cc nL ret hh) (hI : zI Γ R s g H locs cells slots) (hE : zEX E9) (hc : zcl[ci]? = some (E9, T0, 0)) (h5 : ci ≠ 5) (hv : zN1 g 6 (.inr (.inl (ci, []))) = some (a, g1)) (hk : Cond.classLink y0.cls ik E9 ∈ lw_all) (hml : Cond.methodLink y0.cls ic (Bundle.init0 E9) ∈ lw_all)
    (d0 : decode cc pc = .ok (.new ik, 3)) (d3 : decode cc (pc + 3) = .ok (.dup, 1)) (d4 : decode cc (pc + 4) = .ok (.invokespecial ic, 3)) (hsz : ls.size = nL) (hW : (rest.map fun v => v.category).sum ≤ 8) (hR : 5 < R.frames ∧ 89 ≤ R.locals)
    (kk : ∀ (H1 : Heap) (c1 n1 : Nat), zI Γ R s g1 H1 locs c1 n1 → W p l e R s m args below meth c H1 locs c1 n1 Q (F0 m (pc + 7) ls (va_rf (some a) :: rest))) : W p l e R s m args below meth c H locs cells slots Q (F0 m pc ls rest) := by
  obtain ⟨b1, b2, rfl, rfl⟩ := zN1_spec hv
  have hsz0 : H.size = g.1 := hI.1.1
  have hp := z_pre hI
  have hG := X0.1
  have hw := X0.2.1
  have hexec := X0.2.2.1
  have hb := X0.2.2.2.1
  have hml9 := X0.2.2.2.2.1
  have hown := X0.2.2.2.2.2.1
  have hl : l.stackTraces = false := by
    have : l.flags = flags0 := hG.2.2.2.1
    simp only [Launch.stackTraces, this]
    decide +kernel
  have hsize : ls.size = c.maxLocals := hsz.trans hml9.symm
  have hgood := zx_hgood (ik := ik) (ic := ic) hE (own := y0.cls)
  have hat := zx_before (args := args) hG hw hE hml
  have hU := zx_st 0 X0 rfl q201
  have hN := zx_st 1 X0 rfl q203
  intro T hT X
  subst hT
  have htr : e.platform.stackTraces = false := (show e.platform.stackTraces = l.stackTraces by rw [X.admits.platform]).trans hl
  have Y := vx_rebase X (R' := { frames := R.frames, locals := R.locals, cells := 1, slots := 6 }) (Nat.le_refl _) (Nat.le_refl _) (by show cells + 1 ≤ _; omega) (by show slots + 6 ≤ _; omega)
  obtain ⟨s', hA'⟩ : ∃ z, z = (T.setVm s.vm).setFrames (.invoking m args :: below) := ⟨_, rfl⟩
  rw [← hA'] at Y
  have hvm : s'.vm = s.vm := by rw [hA']; rfl
  have hhp : s'.heap = T.heap := by rw [hA']; rfl
  have hW0 : s.WarmedH s'.vm := by rw [hvm]; exact State.WarmedH.refl s
  have hat' : ∀ w ∈ vx_at0 y0.cls ic E9 zxn, w.before args s' = true := fun w hw => vx_ot_at hW0 hvm.symm (hgood w (List.mem_cons_of_mem _ (List.mem_cons_of_mem _ hw))) (hat w hw)
  have hk' : (Cond.classLink y0.cls ik E9).before args s' = true := vx_ot_at hW0 hvm.symm (hgood _ List.mem_cons_self) (z_w (args := args) hG hw hk)
  have hini' : (Cond.initialized E9).before args s' = true := vx_ot_at hW0 hvm.symm (hgood _ (List.mem_cons_of_mem _ List.mem_cons_self)) (z_w (args := args) hG hw hE.2.2.2.2.2)
  have hkeep : ∀ q, q < s.heap.size → ¬ Γ.1.heap.size ≤ q → T.heap[q]? = s.heap[q]? := fun q h1 h2 => (hI.1.2.2.1 q (Nat.not_le.mp h2)).trans (X0.2.2.2.2.2.2.2.2.2.2.2.2 q (Nat.not_le.mp h2)).symm
  have hU' : vx_Zq Bundle.tN "UNASSIGNED_STACK" Bundle.steD (fun q => Γ.1.heap.size ≤ q) s' s'.heap := by rw [hhp]; exact vx_Zq.moved hW0.alike (hU.kept hkeep)
  have hN' : vx_Zq Bundle.tN "SUPPRESSED_SENTINEL" Bundle.listD (fun q => Γ.1.heap.size ≤ q) s' s'.heap := by rw [hhp]; exact vx_Zq.moved hW0.alike (hN.kept hkeep)
  have h : ∀ w ∈ Bundle.ownAtoms0 y0.cls ic E9 zxn, w.before args s' = true := vx_own hat' (vx_isRefq hU'.1) (vx_isRefq hN'.1) hU'.2.word hN'.2.word
  have hown' : s'.vm.findClass y0.cls = some m.cls := by rw [hvm]; exact hown
  have hins : (Cond.instantiable E9 6).before args s' = true := h _ (by simp [Bundle.ownAtoms0])
  obtain ⟨vm₁, cX, kX, hfX, hkX, -, -, X₁, st1⟩ := Y.newCold hexec (own := y0.cls) (C := E9) (index := ik) (n := 6) hown' hk' hins hini'
    (g := F0 m pc ls rest) rfl (by rw [hb]; exact d0) (Nat.le_refl _) (Nat.le_refl _)
  generalize hT1 : (T.setVm vm₁).pushCell { cls := cX, slots := kX.instanceTypes.map defaultValue, vm := .none } = T1 at X₁ st1
  have hcat : (Value.ref T.heap.size).category = 1 := rfl
  have hcellA : T1.heap[T.heap.size]? = some (freshCell cX kX) := by rw [← hT1]; exact State.heap_pushCell_size _ _
  have d3' : decode c.code (pc + 3) = .ok (.dup, 1) := by rw [hb]; exact d3
  obtain ⟨V, ce, L, Z, hL, hlt, hcl9, hvm9, st⟩ := vx_ctorMade0 X₁ hexec htr (own := y0.cls) (cls := E9) (names := zxn) (ic := ic) hown' hE.1 zx_fit h (fun x hx => nomatch hx) hfX hkX hcellA (by rw [hhp]; exact Nat.le_refl _)
    (g := { method := m, pc := pc + 4, locals := ls, stack := .ref T.heap.size :: .ref T.heap.size :: rest, locked := none }) rfl hsize (rest := rest) rfl
    (by rw [hb]; exact d4) hR.1 (by simp only [List.map_cons, List.sum_cons, hcat]; show 2 * 0 + _ + (13 * 3 + 41) ≤ R.locals; omega)
  have Z0 := Stand.forget (locs := []) Z (fun y hy => by rw [hL y hy, hhp]; exact Nat.le_refl _)
  obtain ⟨f1, f2⟩ := vx_frame Z0.same
  rw [hhp] at f1 f2
  have hcid : ce.cls = Γ.2.2.1.1 ci := by
    rw [hcl9]
    have h1 := ((z_K hG hw).1 ci _ hc).2.1
    rw [hvm] at hfX
    exact Option.some.inj (hfX.symm.trans h1)
  have hh9 : (V.setCell T.heap.size ce).heap[T.heap.size]? = some ce := heapAt_setCell_self (s := V) ce hlt
  subst hA'
  have X5 := vx_back9 X Y Z0
  have X6 : Stand p l e R s m args below meth c (V.setCell T.heap.size ce) locs (cells + 1) (slots + 6) := { X5 with same := X5.same.mono (by omega) (by omega) }
  have hoq : ∀ q : Nat, q < T.heap.size → (V.setCell T.heap.size ce).heap[q]? = T.heap[q]? := fun q hq => f2 q hq (fun z hz => nomatch hz)
  have hsz9 : (V.setCell T.heap.size ce).heap.size = T.heap.size + 1 := by
    have h1 : T.heap.size < (V.setCell T.heap.size ce).heap.size := (Array.getElem?_eq_some_iff.mp hh9).1
    have h2 : (V.setCell T.heap.size ce).heap.size ≤ s.heap.size + (cells + 1) := X6.same.2.2.1
    have h3 := hI.2.2.1
    omega
  have hzz := zsz_new hsz9 hh9 hoq
  have hz6 : ce.slots.size ≤ 6 := by
    have h1 := (z_used X6).1
    have h3 := hI.2.2.2.1
    omega
  have X7 := z_tight X6 (k := cells + 1) (n := slots + ce.slots.size) (by have := hI.2.2.1; omega) (by have := hI.2.2.2.1; omega)
  have hI9 : zI Γ R s (zadd g 6 (.inr (.inl (ci, [])))) (V.setCell T.heap.size ce).heap locs (cells + 1) (slots + ce.slots.size) :=
    hI.add hh9 hsz9 hoq hz6 b1 b2 ⟨⟨_, hc, ce, hh9, hcid, hvm9, fun k hk => absurd hk (Nat.not_lt_zero k)⟩, fun z => absurd z h5⟩
  rw [← hsz0] at kk
  obtain ⟨t, a1, bb1⟩ := kk _ _ _ hI9 _ rfl X7
  refine ⟨t, st1 _ ?_, bb1⟩
  show Steps p.tables e below (T1.setTop { method := m, pc := pc + 3, locals := ls, stack := .ref T.heap.size :: rest, locked := none }) _
  jvm_step X₁.here [X₁.here.top, hexec, d3', Value.category]
  exact st _ a1
end ZEXC
