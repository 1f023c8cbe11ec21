/-! the classes whose objects the ghost heap holds, by number; the array classes, by number -/
def zcl : List vw_C := [(RX1, TX1, 6), (RX2, TX2, 9), (RX3, TX3, 2), (RX4, TX4, 6), (RX5, TX5, 23), (RX6, TX6, 8), (RX7, TX7, 3), (RX8, TX8, 7), (RX9, TX9, 3), (RX10, TX10, 6), (RX11, TX11, 3), (RX12, TX12, 4), (RX13, TX13, 2), (RX14, TX14, 3), (RX15, TX15, 7), (RJ2, TJ2, 3), (RJ8, TJ8, 4), (RJ18, TJ18, 3), (RJ21, TJ21, 4), (RJ17, TJ17, 1), (RJ19, TJ19, 0), (RJ6, TJ6, 0), (RJ24, TJ24, 0), (RJ23, TJ23, 0), (RJ25, TJ25, 0), (RJ28, TJ28, 0)]
def ztys : List FieldType := [.int, .long, .double, .char, .byte, .object "StaffRailway$Entry", .object "StaffRailway$Stretch", .object "StaffRailway$Box", .object "java/lang/Object", .array .int]
/-! THE GHOST HEAP: a pure heap that the machine's heap realizes; contracts over it -/
/-- ghost cells: arrays (number of the array class, length, contents), objects (number of the class, fields), and what never changes: (i, vs) a lambda object of the site i with its captured values, (1000 + c, vs) an object of the class c, (2000 + t, vs) an array -/
abbrev zE : Type := (Nat × vp_A) ⊕ ((Nat × List Value) ⊕ (Nat × List Value))
/-- ghost heap: next address, cells left, slots left, contents, what statics hold -/
abbrev zH : Type := Nat × Nat × Nat × (Nat → Option zE) × (Nat → Option Nat)
/-- the start's state, its arguments, the classes' numbers and slots, the array classes' numbers, the lambda classes' numbers, what statics hold -/
abbrev zG : Type := State × Array Value × va_G × (Nat → ClassId) × (Nat → ClassId) × (Nat → Option Nat)
def zsz (H : Heap) : Nat := (H.toList.map (fun c => c.slots.size)).sum
theorem zsz_push (H : Heap) (x : Cell) : zsz (H.push x) = zsz H + x.slots.size := by simp [zsz]
theorem z_push_eq {H H' : Heap} {x : Cell} (h1 : H'.size = H.size + 1) (h2 : H'[H.size]? = some x) (h3 : ∀ q, q < H.size → H'[q]? = H[q]?) : H' = H.push x := by
  apply Array.ext_getElem?
  intro i
  rw [Array.getElem?_push]
  by_cases h : i = H.size
  · rw [if_pos h, h]; exact h2
  · rw [if_neg h]
    by_cases hi : i < H.size
    · exact h3 i hi
    · rw [Array.getElem?_eq_none (by omega), Array.getElem?_eq_none (by omega)]
theorem zsz_new {H H' : Heap} {x : Cell} (h1 : H'.size = H.size + 1) (h2 : H'[H.size]? = some x) (h3 : ∀ q, q < H.size → H'[q]? = H[q]?) : zsz H' = zsz H + x.slots.size := by
  rw [z_push_eq h1 h2 h3, zsz_push]
theorem zsz_set {H H' : Heap} {a : Nat} {x y : Cell} (ha : H[a]? = some x) (ha' : H'[a]? = some y) (hs : y.slots.size = x.slots.size) (h3 : ∀ q, q ≠ a → H'[q]? = H[q]?) : zsz H' = zsz H := by
  have h : H'.toList.map (fun c => c.slots.size) = H.toList.map (fun c => c.slots.size) := by
    apply List.ext_getElem?
    intro i
    simp only [List.getElem?_map, Array.getElem?_toList]
    by_cases hi : i = a
    · rw [hi, ha, ha']; simp [hs]
    · rw [h3 i hi]
  unfold zsz
  rw [h]
section ZT
variable {p : Program} {l : Launch} {e : Env} {R : Room} {s : State} {m : MethodId} {args : Array Value} {below : List Frame} {meth : Method} {c : Code} {T : State} {locs : List Loc} {cells slots : Nat}
/-- the heap tells exactly how much was made -/
theorem z_tight (X : Stand p l e R s m args below meth c T locs cells slots) {k n : Nat} (h1 : T.heap.size = s.heap.size + k) (h2 : zsz T.heap = zsz s.heap + n) : Stand p l e R s m args below meth c T locs k n := by
  obtain ⟨e1, e2, e3, e4, e5, e6⟩ := X.same
  have ht : (T.heap.toList.take s.heap.size).map (fun c => c.slots.size) = s.heap.toList.map (fun c => c.slots.size) := by
    apply List.ext_getElem?
    intro i
    simp only [List.getElem?_map, List.getElem?_take, Array.getElem?_toList]
    by_cases hi : i < s.heap.size
    · rw [if_pos hi]
      obtain ⟨c', f1, f2, f3, -⟩ := e6 i _ (Array.getElem?_eq_getElem hi)
      have f1' : T.heap[i]? = some c' := f1
      rw [f1', Array.getElem?_eq_getElem hi]
      simp [f3]
    · rw [if_neg hi, Array.getElem?_eq_none (by omega)]
  have hz : zsz T.heap = ((T.heap.toList.take s.heap.size).map (fun c => c.slots.size)).sum + ((T.heap.toList.drop s.heap.size).map (fun c => c.slots.size)).sum := by
    unfold zsz
    rw [← List.sum_append, ← List.map_append, List.take_append_drop]
  rw [ht] at hz
  have hz2 : zsz T.heap = zsz s.heap + ((T.heap.toList.drop s.heap.size).map (fun c => c.slots.size)).sum := hz
  have e5' : ((T.heap.toList.drop s.heap.size).map (fun c => c.slots.size)).sum ≤ n := by omega
  exact { X with same := ⟨e1, e2, (by show T.heap.size ≤ s.heap.size + k; omega), e4, e5', e6⟩ }
theorem z_used (X : Stand p l e R s m args below meth c T locs cells slots) : zsz T.heap ≤ zsz s.heap + slots ∧ zsz s.heap ≤ zsz T.heap := by
  obtain ⟨e1, e2, e3, e4, e5, e6⟩ := X.same
  have ht : (T.heap.toList.take s.heap.size).map (fun c => c.slots.size) = s.heap.toList.map (fun c => c.slots.size) := by
    apply List.ext_getElem?
    intro i
    simp only [List.getElem?_map, List.getElem?_take, Array.getElem?_toList]
    by_cases hi : i < s.heap.size
    · rw [if_pos hi]
      obtain ⟨c', f1, f2, f3, -⟩ := e6 i _ (Array.getElem?_eq_getElem hi)
      have f1' : T.heap[i]? = some c' := f1
      rw [f1', Array.getElem?_eq_getElem hi]
      simp [f3]
    · rw [if_neg hi, Array.getElem?_eq_none (by omega)]
  have hz : zsz T.heap = ((T.heap.toList.take s.heap.size).map (fun c => c.slots.size)).sum + ((T.heap.toList.drop s.heap.size).map (fun c => c.slots.size)).sum := by
    unfold zsz
    rw [← List.sum_append, ← List.map_append, List.take_append_drop]
  rw [ht] at hz
  have hz2 : zsz T.heap = zsz s.heap + ((T.heap.toList.drop s.heap.size).map (fun c => c.slots.size)).sum := hz
  have e5' : ((T.heap.toList.drop s.heap.size).map (fun c => c.slots.size)).sum ≤ slots := e5
  omega
end ZT
/-- what never changes: lambda objects, constant objects and arrays -/
def zim (Γ : zG) (i a : Nat) (vs : List Value) (H : Heap) : Prop := if i < 1000 then H[a]? = some { cls := Γ.2.2.2.2.1 i, slots := vs.toArray, vm := .none } else if i < 2000 then va_at Γ.2.2.1 zcl (a, .inr (i - 1000, vs)) H else (∃ ty, ztys[i - 2000]? = some ty) ∧ ∃ cell : Cell, H[a]? = some cell ∧ cell.cls = Γ.2.2.2.1 (i - 2000) ∧ cell.slots = vs.toArray ∧ cell.vm = .none
theorem zim.kept {Γ : zG} {i a : Nat} {vs : List Value} {H H' : Heap} (h : zim Γ i a vs H) (hq : H'[a]? = H[a]?) : zim Γ i a vs H' := by
  unfold zim at h ⊢
  by_cases h1 : i < 1000
  · rw [if_pos h1] at h ⊢; exact hq.trans h
  · rw [if_neg h1] at h ⊢
    by_cases h2 : i < 2000
    · rw [if_pos h2] at h ⊢; exact h.kept hq
    · rw [if_neg h2] at h ⊢
      obtain ⟨h0, cell, h3, h4⟩ := h
      exact ⟨h0, cell, hq.trans h3, h4⟩
theorem zim.lt {Γ : zG} {i a : Nat} {vs : List Value} {H : Heap} (h : zim Γ i a vs H) : a < H.size := by
  unfold zim at h
  by_cases h1 : i < 1000
  · rw [if_pos h1] at h; exact (Array.getElem?_eq_some_iff.mp h).1
  · rw [if_neg h1] at h
    by_cases h2 : i < 2000
    · rw [if_pos h2] at h; exact h.lt
    · rw [if_neg h2] at h
      obtain ⟨h0, cell, h3, h4⟩ := h
      exact (Array.getElem?_eq_some_iff.mp h3).1
/-- a ghost cell, in the heap -/
def zat (Γ : zG) (a : Nat) (e : zE) (H : Heap) : Prop := match e with
  | .inl x => (∃ ty, ztys[x.1]? = some ty) ∧ H[a]? = some (vp_cell (Γ.2.2.2.1 x.1) x.2)
  | .inr (.inl o) => va_at Γ.2.2.1 zcl (a, .inr o) H ∧ (o.1 = 5 → ∃ cell : Cell, H[a]? = some cell ∧ cell.monitor = {})
  | .inr (.inr o) => zim Γ o.1 a o.2 H
theorem zat.kept {Γ : zG} {a : Nat} {e : zE} {H H' : Heap} (h : zat Γ a e H) (hq : H'[a]? = H[a]?) : zat Γ a e H' := by
  rcases e with x | o | o
  · exact ⟨h.1, hq.trans h.2⟩
  · exact ⟨h.1.kept hq, fun z => by obtain ⟨cell, q, r⟩ := h.2 z; exact ⟨cell, hq.trans q, r⟩⟩
  · exact zim.kept h hq
theorem zat.lt {Γ : zG} {a : Nat} {e : zE} {H : Heap} (h : zat Γ a e H) : a < H.size := by
  rcases e with x | o | o
  · exact (Array.getElem?_eq_some_iff.mp h.2).1
  · exact h.1.lt
  · exact zim.lt h
/-- what may be written -/
def zmut (e : zE) : Prop := match e with
  | .inl x => x.2.1 ≠ 0
  | .inr (.inl o) => o.1 ≠ 19
  | .inr (.inr _) => False
/-- the heap realizes the ghost heap; what lay there at the start is as it was -/
def zR (Γ : zG) (g : zH) (H : Heap) : Prop := H.size = g.1 ∧ Γ.1.heap.size ≤ H.size ∧ (∀ q, q < Γ.1.heap.size → H[q]? = Γ.1.heap[q]?) ∧ (∀ a e, g.2.2.2.1 a = some e → (zmut e → Γ.1.heap.size ≤ a) ∧ zat Γ a e H) ∧ g.2.2.2.2 = Γ.2.2.2.2.2
def zset (g : zH) (a : Nat) (e : zE) : zH := (g.1, g.2.1, g.2.2.1, va_up g.2.2.2.1 a (some e), g.2.2.2.2)
def zadd (g : zH) (n : Nat) (e : zE) : zH := (g.1 + 1, g.2.1 - 1, g.2.2.1 - n, va_up g.2.2.2.1 g.1 (some e), g.2.2.2.2)
theorem zR.set {Γ : zG} {g : zH} {H H' : Heap} {a : Nat} {e' : zE} (h : zR Γ g H) (hs : H'.size = H.size) (oq : ∀ q, q ≠ a → H'[q]? = H[q]?) (hb : Γ.1.heap.size ≤ a) (he : zat Γ a e' H') : zR Γ (zset g a e') H' := by
  obtain ⟨h1, h2, h3, h4, h6⟩ := h
  refine ⟨hs.trans h1, by omega, fun q hq => (oq q (by omega)).trans (h3 q hq), fun b e hbe => ?_, h6⟩
  by_cases hab : b = a
  · subst hab
    have h5 : e' = e := by simpa [zset, va_up] using hbe
    subst h5
    exact ⟨fun _ => hb, he⟩
  · have h5 : g.2.2.2.1 b = some e := by simpa [zset, va_up, hab] using hbe
    exact ⟨(h4 b e h5).1, (h4 b e h5).2.kept (oq b hab)⟩
theorem zR.add {Γ : zG} {g : zH} {H H' : Heap} {n : Nat} {e' : zE} (h : zR Γ g H) (hs : H'.size = H.size + 1) (oq : ∀ q, q < H.size → H'[q]? = H[q]?) (he : zat Γ H.size e' H') : zR Γ (zadd g n e') H' := by
  obtain ⟨h1, h2, h3, h4, h6⟩ := h
  refine ⟨by show H'.size = g.1 + 1; omega, by omega, fun q hq => (oq q (by omega)).trans (h3 q hq), fun b e hbe => ?_, h6⟩
  by_cases hab : b = g.1
  · subst hab
    have h5 : e' = e := by simpa [zadd, va_up] using hbe
    subst h5
    rw [← h1]
    exact ⟨fun _ => h2, he⟩
  · have h5 : g.2.2.2.1 b = some e := by simpa [zadd, va_up, hab] using hbe
    exact ⟨(h4 b e h5).1, (h4 b e h5).2.kept (oq b (h4 b e h5).2.lt)⟩
/-- the start's statics, its sites of lambdas, pairs of classes not castable, the cache of Integers -/
def zOK2 (Γ : zG) : Prop :=
  (∀ (k : Nat) (q : String × String × String), zsts[k]? = some q → va_Z q.1 q.2.1 q.2.2 (va_rf (Γ.2.2.2.2.2 k)) (fun q => Γ.1.heap.size ≤ q) Γ.1 Γ.1.heap) ∧
  (∀ q ∈ zsti, va_Z q.1 q.2.1 q.2.2.1 (.int q.2.2.2) (fun q => Γ.1.heap.size ≤ q) Γ.1 Γ.1.heap) ∧
  (∀ q ∈ znc, va_Nc q.1 q.2 Γ.1) ∧
  (∀ (k : Nat) (q : MethodName × Nat × Nat × Lambda.Shape), zsites[k]? = some q → ∃ one, Γ.1.lambdaAt? q.1 q.2.1 q.2.2.1 q.2.2.2 = some (Γ.2.2.2.2.1 k, one) ∧ ∀ a, one = some a → Γ.2.2.2.2.2 (200 + k) = some a) ∧
  (∃ (ac : Nat) (cell : Cell), Γ.2.2.2.2.2 4 = some ac ∧ Γ.1.heap[ac]? = some cell ∧ cell.vm ≠ .unknown ∧ ArrOfT Γ.1 cell.cls (.object "java/lang/Integer") ∧ cell.vm = .none ∧ 256 ≤ cell.slots.size ∧ ∀ n, n < 256 → cell.slots[n]? = some (va_rf (Γ.2.2.2.2.2 (1000 + n))))
/-- what is known of the start -/
def zOK (Γ : zG) (l : Launch) : Prop := (∀ w ∈ lw_tbl, w.before Γ.2.1 Γ.1 = true) ∧ va_K Γ.2.2.1 zcl [] Γ.1 ∧ (∀ (t : Nat) (ty : FieldType), ztys[t]? = some ty → ArrOfT Γ.1 (Γ.2.2.2.1 t) ty ∧ va_RA Γ.1 (Γ.2.2.2.1 t) ty) ∧ l.flags = flags0 ∧ (Jvm.Cond.and given_1 narrow_1).before Γ.2.1 Γ.1 = true ∧ zOK2 Γ
/-- what a method's body may lean on -/
def zX (Γ : zG) (p : Program) (l : Launch) (s : State) (m : MethodId) (meth : Method) (c : Code) (y : MethodName) (cc : ByteArray) (nL : Nat) (ret : Option FieldType) (hh : List (Nat × Nat × Nat × Nat)) : Prop :=
  zOK Γ l ∧ Γ.1.WarmedH s.vm ∧ p.tables.exec = Jvm.exec ∧ c.code = cc ∧ c.maxLocals = nL ∧ s.vm.findClass y.cls = some m.cls ∧ meth.sig.returnType = ret ∧ meth.locks = false ∧ c.exceptionTable.toList = tableOf hh ∧ meth.name = y.name ∧ s.methodNamed? y = some m ∧ s.vm.method? m = some meth ∧ ∀ q, q < Γ.1.heap.size → s.heap[q]? = Γ.1.heap[q]?
/-- the point of a walk: heap and ghost heap, what was written, what was made and what is left -/
def zI (Γ : zG) (R : Room) (s : State) (g : zH) (H : Heap) (locs : List Loc) (cells slots : Nat) : Prop :=
  zR Γ g H ∧ (∀ q ∈ locs, Γ.1.heap.size ≤ q.base) ∧ s.heap.size + cells = H.size ∧ zsz s.heap + slots = zsz H ∧ H.size + g.2.1 ≤ s.heap.size + R.cells ∧ zsz H + g.2.2.1 ≤ zsz s.heap + R.slots
/-- where a method ends -/
def zPost (Γ : zG) (g gf : zH) (res : Option Value ⊕ Nat) (mc ms : Nat) (st : State) (o : Outcome) (t : State) : Prop :=
  (match res with | .inl v => o = .returned v | .inr q => o = .threw q) ∧ zR Γ gf t.heap ∧ st.WarmedH t.vm ∧ (∃ L, st.sameButNew ({ t with vm := st.vm } : State) L mc ms ∧ ∀ q ∈ L, Γ.1.heap.size ≤ q.base) ∧
  t.heap.size + gf.2.1 ≤ st.heap.size + mc ∧ zsz t.heap + gf.2.2.1 ≤ zsz st.heap + ms
def zQ (Γ : zG) (below : List Frame) (s : State) (R : Room) (res : Option Value ⊕ Nat) (g gf : zH) : State → Prop := fun t =>
  ∃ o, t.status = .running ∧ Ended t below o ∧ zPost Γ g gf res R.cells R.slots s o t
/-- the contract of a method at one call: with these arguments, from this ghost heap, it comes to that end -/
def zCT (Γ : zG) (l : Launch) (y : MethodName) (fr lc : Nat) (av : List Value) (g : zH) (res : Option Value ⊕ Nat) (gf : zH) : Prop :=
  (∀ s : State, Γ.1.WarmedH s.vm → ∃ (mk : MethodId) (mt : Method), s.methodNamed? y = some mk ∧ s.vm.method? mk = some mt ∧ parseMethodDescriptor y.desc = some mt.sig) ∧
  ∀ (R : Room) (p : Program) (e : Env) (below : List Frame) (s : State) (sargs : Array Value) (len W9 : Nat), fr + 1 ≤ R.frames → W9 + lc ≤ R.locals → Γ.1.WarmedH s.vm →
    vx_Back l R p e below s sargs y len W9 (fun A a => a = av.toArray ∧ zR Γ g A.U.heap ∧ A.cells + g.2.1 ≤ R.cells ∧ A.slots + g.2.2.1 ≤ R.slots)
      (fun A a v B => res = .inl v ∧ zR Γ gf B.U.heap ∧ (∃ L, B.locs = A.locs ++ L ∧ ∀ q ∈ L, Γ.1.heap.size ≤ q.base) ∧ B.U.heap.size + gf.2.1 ≤ A.U.heap.size + g.2.1 ∧ zsz B.U.heap + gf.2.2.1 ≤ zsz A.U.heap + g.2.2.1)
      (fun A a q B => res = .inr q ∧ zR Γ gf B.U.heap ∧ (∃ L, B.locs = A.locs ++ L ∧ ∀ q ∈ L, Γ.1.heap.size ≤ q.base) ∧ B.U.heap.size + gf.2.1 ≤ A.U.heap.size + g.2.1 ∧ zsz B.U.heap + gf.2.2.1 ≤ zsz A.U.heap + g.2.2.1)
section ZW
variable {Γ : zG} {l : Launch} {s : State} {args : Array Value}
theorem z_w (hG : zOK Γ l) (hw : Γ.1.WarmedH s.vm) {w : Cond} (h : w ∈ lw_all) : w.before args s = true := word_at hw (lw_self w h).2 (hG.1 w (lw_all_tbl h))
theorem z_wF (hG : zOK Γ l) (hw : Γ.1.WarmedH s.vm) {a : String} {i : Nat} {b n d h : String} (q : Cond.fieldLinkNest a i b n d h ∈ lw_tbl) : (Cond.fieldLinkNest a i b n d h).before args s = true := va_Nw.use rfl (va_Nw.warmF hw (va_Nw.of rfl (hG.1 _ q)))
theorem z_wM (hG : zOK Γ l) (hw : Γ.1.WarmedH s.vm) {a : String} {i : Nat} {x : MethodName} {h : String} (q : Cond.methodLinkNest a i x h ∈ lw_tbl) : (Cond.methodLinkNest a i x h).before args s = true := va_Nw.use rfl (va_Nw.warmM hw (va_Nw.of rfl (hG.1 _ q)))
theorem z_wC (hG : zOK Γ l) (hw : Γ.1.WarmedH s.vm) {C T : String} (q : Cond.castable C T ∈ lw_tbl) : (Cond.castable C T).before args s = true := va_Nw.use rfl (va_Nw.warmC hw (va_Nw.of rfl (hG.1 _ q)))
theorem z_K (hG : zOK Γ l) (hw : Γ.1.WarmedH s.vm) : va_K Γ.2.2.1 zcl [] s := hG.2.1.moved hw.alike
theorem z_KA (hG : zOK Γ l) (hw : Γ.1.WarmedH s.vm) {t : Nat} {ty : FieldType} (ht : ztys[t]? = some ty) : va_K Γ.2.2.1 zcl [(Γ.2.2.2.1 t, ty)] s := by
  refine ⟨(z_K hG hw).1, fun k q hk => ?_⟩
  cases k with
  | zero => cases hk; exact ⟨arrOfT_moved hw.alike (hG.2.2.1 t ty ht).1, (hG.2.2.1 t ty ht).2.moved hw.alike⟩
  | succ k => simp at hk
theorem z_P1 {D : va_G} {cl : List vw_C} {q : Nat × va_E} {H : Heap} (h : va_at D cl q H) : va_P D cl [q] H := fun k q' hk => by
  cases k with
  | zero => cases hk; exact h
  | succ k => simp at hk
end ZW
