/-! local variables by their numbers; rows for loads, stores, branches on references -/
def zls (ls : Array Slot) (nL : Nat) (vs : List (Option Value)) : Prop := ls.size = nL ∧ lv_wf ls ∧ ∀ (i : Nat) (v : Value), vs[i]? = some (some v) → ls[i]? = some (.val v)
theorem zls.at {ls : Array Slot} {nL : Nat} {vs : List (Option Value)} (h : zls ls nL vs) (i : Nat) {v : Value} (hv : vs[i]? = some (some v)) : ls[i]? = some (.val v) := h.2.2 i v hv
def zlv (vs : List (Option Value)) : List (Nat × Value) := vs.zipIdx.filterMap (fun q => q.1.map (fun v => (q.2, v)))
theorem zlv_mem {vs : List (Option Value)} {i : Nat} {v : Value} : (i, v) ∈ zlv vs ↔ vs[i]? = some (some v) := by
  unfold zlv
  rw [List.mem_filterMap]
  constructor
  · rintro ⟨⟨o, j⟩, h1, h2⟩
    have h3 : vs[j]? = some o := List.mem_zipIdx_iff_getElem?.mp h1
    cases o with
    | none => cases h2
    | some w => cases h2; exact h3
  · intro h
    exact ⟨(some v, i), List.mem_zipIdx_iff_getElem?.mpr h, rfl⟩
theorem zls.lv {ls : Array Slot} {nL : Nat} {vs : List (Option Value)} (h : zls ls nL vs) : lv_has ls nL (zlv vs) := ⟨h.1, h.2.1, fun q hq => h.2.2 q.1 q.2 (zlv_mem.mp hq)⟩
/-- no long or double stands just before the place -/
def zpre (vs : List (Option Value)) (i : Nat) : Prop := ∀ (j : Nat) (w : Value), j + 1 = i → vs[j]? = some (some w) → w.category = 1
theorem zpre0 {vs : List (Option Value)} : zpre vs 0 := fun j w h => absurd h (Nat.succ_ne_zero j)
theorem z_cat_rf (r : Option Nat) : (va_rf r).category = 1 := by cases r <;> rfl
theorem zpreI {vs : List (Option Value)} {i : Nat} {x : Int32} (h : vs[i]? = some (some (.int x))) : zpre vs (i + 1) := fun j w e hw => by
  cases Nat.succ.inj e
  rw [h] at hw; cases hw; rfl
theorem zpreR {vs : List (Option Value)} {i : Nat} {r : Option Nat} (h : vs[i]? = some (some (va_rf r))) : zpre vs (i + 1) := fun j w e hw => by
  cases Nat.succ.inj e
  rw [h] at hw; cases hw; exact z_cat_rf r
theorem zpreN {vs : List (Option Value)} {i : Nat} (h : vs[i]? = some none) : zpre vs (i + 1) := fun j w e hw => by
  cases Nat.succ.inj e
  rw [h] at hw; cases hw
theorem zls.st {ls' : Array Slot} {nL i : Nat} {vs : List (Option Value)} {x : Value} (hp : zpre vs i) (hi : i < vs.length) (h : lv_has ls' nL ((i, x) :: (zlv vs).filter (fun q => !(q.1 == i) && !(q.1 + 1 == i && q.2.category == 2)))) : zls ls' nL (vs.set i (some x)) := by
  refine ⟨h.1, h.2.1, fun j v hv => ?_⟩
  by_cases hj : j = i
  · subst hj
    rw [List.getElem?_set_self hi] at hv
    cases hv
    exact h.2.2 (j, x) List.mem_cons_self
  · rw [List.getElem?_set_ne (Ne.symm hj)] at hv
    refine h.2.2 (j, v) (List.mem_cons_of_mem _ (List.mem_filter.mpr ⟨zlv_mem.mpr hv, ?_⟩))
    by_cases h1 : j + 1 = i
    · have := hp j v h1 hv
      simp [hj, this]
    · simp [hj, h1]
theorem zls.st2 {ls' : Array Slot} {nL i : Nat} {vs : List (Option Value)} {x : Value} (hp : zpre vs i) (hi : i + 1 < vs.length) (h : lv_has ls' nL ((i, x) :: (zlv vs).filter (fun q => !(q.1 == i) && (!(q.1 == i + 1) && !(q.1 + 1 == i && q.2.category == 2))))) : zls ls' nL ((vs.set i (some x)).set (i + 1) none) := by
  refine ⟨h.1, h.2.1, fun j v hv => ?_⟩
  by_cases hj1 : j = i + 1
  · subst hj1
    rw [List.getElem?_set_self (by simpa using hi)] at hv
    cases hv
  · rw [List.getElem?_set_ne (Ne.symm hj1)] at hv
    by_cases hj : j = i
    · subst hj
      rw [List.getElem?_set_self (by omega)] at hv
      cases hv
      exact h.2.2 (j, x) List.mem_cons_self
    · rw [List.getElem?_set_ne (Ne.symm hj)] at hv
      refine h.2.2 (j, v) (List.mem_cons_of_mem _ (List.mem_filter.mpr ⟨zlv_mem.mpr hv, ?_⟩))
      by_cases h1 : j + 1 = i
      · have := hp j v h1 hv
        simp [hj, hj1, this]
      · simp [hj, hj1, h1]
def zle : List (Option Value) → List (Option Value) → Prop
  | [], _ => True
  | none :: a, b => zle a b.tail
  | some v :: a, b => b.head? = some (some v) ∧ zle a b.tail
theorem zle_at : ∀ (a b : List (Option Value)) (i : Nat) (v : Value), zle a b → a[i]? = some (some v) → b[i]? = some (some v) := by
  intro a
  induction a with
  | nil => intro b i v _ h; cases h
  | cons o a ih =>
    intro b i v h ha
    have ht : ∀ j, b.tail[j]? = b[j + 1]? := fun j => by cases b <;> rfl
    cases i with
    | zero =>
      cases o with
      | none => cases ha
      | some w =>
        cases ha
        have := h.1
        cases b with
        | nil => cases this
        | cons x b => exact this
    | succ i =>
      have h2 : zle a b.tail := by
        cases o with
        | none => exact h
        | some w => exact h.2
      have := ih b.tail i v h2 ha
      rw [ht] at this
      exact this
theorem zls.sub {ls : Array Slot} {nL : Nat} {vs vs' : List (Option Value)} (h : zls ls nL vs) (hle : zle vs' vs) : zls ls nL vs' := ⟨h.1, h.2.1, fun i v hv => h.2.2 i v (zle_at _ _ i v hle hv)⟩
theorem lv_args1 : ∀ (av : List Value) (k : Nat), (∀ v ∈ av, v.category = 1) → ∀ i v, av[i]? = some v → (k + i, v) ∈ lv_args k av := by
  intro av
  induction av with
  | nil => intro k _ i v h; cases h
  | cons a av ih =>
    intro k hc i v h
    have h1 : a.category = 1 := hc a List.mem_cons_self
    show (k + i, v) ∈ (k, a) :: lv_args (if a.category = 2 then k + 2 else k + 1) av
    rw [h1]
    cases i with
    | zero => cases h; exact List.mem_cons_self
    | succ i =>
      have := ih (k + 1) (fun w hw => hc w (List.mem_cons_of_mem _ hw)) i v h
      rw [show k + (i + 1) = k + 1 + i by omega]
      exact List.mem_cons_of_mem _ this
theorem lg_sl1 : ∀ (av : List Value), (∀ v ∈ av, v.category = 1) → (lg_sl av).length = av.length := by
  intro av
  induction av with
  | nil => intro _; rfl
  | cons a av ih =>
    intro hc
    have h1 : a.category = 1 := hc a List.mem_cons_self
    have := ih (fun w hw => hc w (List.mem_cons_of_mem _ hw))
    simp only [lg_sl, List.flatMap_cons, List.length_append, List.length_cons] at this ⊢
    rw [this]
    cases a <;> first | (simp [Value.category] at h1; done) | (simp [lg_slots, Value.category]; omega) | (simp [Value.category]; omega)
theorem z_entry {m : MethodId} {av : List Value} {nL : Nat} (hc : ∀ v ∈ av, v.category = 1) (hn : av.length ≤ nL) : ∃ ls, entryFrame m av.toArray nL = F0 m 0 ls [] ∧ zls ls nL (av.map some ++ List.replicate (nL - av.length) none) := by
  have hl := lv_entry av (n := nL) (by rw [lg_sl1 av hc]; exact hn)
  refine ⟨_, lg_entry_eq _ _ _, hl.1, hl.2.1, fun i v hv => ?_⟩
  by_cases hi : i < av.length
  · rw [List.getElem?_append_left (by simpa using hi), List.getElem?_map] at hv
    cases h9 : av[i]? with
    | none => rw [h9] at hv; cases hv
    | some w =>
      rw [h9] at hv
      cases hv
      have := hl.2.2 (0 + i, v) (lv_args1 av 0 hc i v h9)
      rw [Nat.zero_add] at this
      exact this
  · rw [List.getElem?_append_right (by simpa using Nat.le_of_not_lt hi)] at hv
    have h9 := List.mem_of_getElem? hv
    have := List.eq_of_mem_replicate h9
    cases this
section ZLR
variable {Γ : zG} {p : Program} {l : Launch} {e : Env} {R : Room} {s : State} {m : MethodId} {args : Array Value} {below : List Frame} {meth : Method} {c : Code} {H : Heap} {locs : List Loc} {cells slots pc : Nat} {ls : Array Slot} {rest : List Value} {Q : State → Prop}
variable {y0 : MethodName} {cc : ByteArray} {nL i : Nat} {ret : Option FieldType} {hh : List (Nat × Nat × Nat × Nat)} {vs : List (Option Value)} {x : Int32} {r : Option Nat} {off : Int} {tgt : Nat}
theorem z_iload_n {k : Fin 4} (X0 : zX Γ p l s m meth c y0 cc nL ret hh) (hl : zls ls nL vs) (hv : vs[(k : Nat)]? = some (some (.int x))) (hdg : decode cc pc = .ok (.iload_n k, 1)) (kk : W p l e R s m args below meth c H locs cells slots Q (F0 m (pc + 1) ls (.int x :: rest))) : W p l e R s m args below meth c H locs cells slots Q (F0 m pc ls rest) := lv_iload_n X0.2.2.1 X0.2.2.2.1 hdg rfl (hl.at _ hv) kk
theorem z_iload (X0 : zX Γ p l s m meth c y0 cc nL ret hh) (hl : zls ls nL vs) (hv : vs[i]? = some (some (.int x))) (hdg : decode cc pc = .ok (.iload i, 2)) (kk : W p l e R s m args below meth c H locs cells slots Q (F0 m (pc + 2) ls (.int x :: rest))) : W p l e R s m args below meth c H locs cells slots Q (F0 m pc ls rest) := lv_iload X0.2.2.1 X0.2.2.2.1 hdg (hl.at _ hv) kk
theorem z_dload {d : UInt64} (X0 : zX Γ p l s m meth c y0 cc nL ret hh) (hl : zls ls nL vs) (hv : vs[i]? = some (some (.double d))) (hdg : decode cc pc = .ok (.dload i, 2)) (kk : W p l e R s m args below meth c H locs cells slots Q (F0 m (pc + 2) ls (.double d :: rest))) : W p l e R s m args below meth c H locs cells slots Q (F0 m pc ls rest) := lv_dload X0.2.2.1 X0.2.2.2.1 hdg (hl.at _ hv) kk
theorem z_aload_n {k : Fin 4} (X0 : zX Γ p l s m meth c y0 cc nL ret hh) (hl : zls ls nL vs) (hv : vs[(k : Nat)]? = some (some (va_rf r))) (hdg : decode cc pc = .ok (.aload_n k, 1)) (kk : W p l e R s m args below meth c H locs cells slots Q (F0 m (pc + 1) ls (va_rf r :: rest))) : W p l e R s m args below meth c H locs cells slots Q (F0 m pc ls rest) := by
  cases r with
  | none => exact lv_aload_nN X0.2.2.1 X0.2.2.2.1 hdg rfl (hl.at _ hv) kk
  | some a => exact lv_aload_n X0.2.2.1 X0.2.2.2.1 hdg rfl (hl.at _ hv) kk
theorem z_aload (X0 : zX Γ p l s m meth c y0 cc nL ret hh) (hl : zls ls nL vs) (hv : vs[i]? = some (some (va_rf r))) (hdg : decode cc pc = .ok (.aload i, 2)) (kk : W p l e R s m args below meth c H locs cells slots Q (F0 m (pc + 2) ls (va_rf r :: rest))) : W p l e R s m args below meth c H locs cells slots Q (F0 m pc ls rest) := by
  cases r with
  | none => exact lv_aloadN X0.2.2.1 X0.2.2.2.1 hdg (hl.at _ hv) kk
  | some a => exact lv_aload X0.2.2.1 X0.2.2.2.1 hdg (hl.at _ hv) kk
theorem z_istore_n {k : Fin 4} (X0 : zX Γ p l s m meth c y0 cc nL ret hh) (hl : zls ls nL vs) (hk : (k : Nat) < nL ∧ (k : Nat) < vs.length) (hp : zpre vs k) (hdg : decode cc pc = .ok (.istore_n k, 1)) (kk : ∀ ls', zls ls' nL (vs.set k (some (.int x))) → W p l e R s m args below meth c H locs cells slots Q (F0 m (pc + 1) ls' rest)) : W p l e R s m args below meth c H locs cells slots Q (F0 m pc ls (.int x :: rest)) :=
  lv_istore_n X0.2.2.1 X0.2.2.2.1 hdg rfl hl.lv hk.1 rfl (fun ls' h => kk ls' (zls.st hp hk.2 h))
theorem z_istore (X0 : zX Γ p l s m meth c y0 cc nL ret hh) (hl : zls ls nL vs) (hk : i < nL ∧ i < vs.length) (hp : zpre vs i) (hdg : decode cc pc = .ok (.istore i, 2)) (kk : ∀ ls', zls ls' nL (vs.set i (some (.int x))) → W p l e R s m args below meth c H locs cells slots Q (F0 m (pc + 2) ls' rest)) : W p l e R s m args below meth c H locs cells slots Q (F0 m pc ls (.int x :: rest)) :=
  lv_istore X0.2.2.1 X0.2.2.2.1 hdg hl.lv hk.1 rfl (fun ls' h => kk ls' (zls.st hp hk.2 h))
theorem z_dstore {d : UInt64} (X0 : zX Γ p l s m meth c y0 cc nL ret hh) (hl : zls ls nL vs) (hk : i + 1 < nL ∧ i + 1 < vs.length) (hp : zpre vs i) (hdg : decode cc pc = .ok (.dstore i, 2)) (kk : ∀ ls', zls ls' nL ((vs.set i (some (.double d))).set (i + 1) none) → W p l e R s m args below meth c H locs cells slots Q (F0 m (pc + 2) ls' rest)) : W p l e R s m args below meth c H locs cells slots Q (F0 m pc ls (.double d :: rest)) :=
  lv_dstore X0.2.2.1 X0.2.2.2.1 hdg hl.lv hk.1 rfl (fun ls' h => kk ls' (zls.st2 hp hk.2 h))
theorem z_astore_n {k : Fin 4} (X0 : zX Γ p l s m meth c y0 cc nL ret hh) (hl : zls ls nL vs) (hk : (k : Nat) < nL ∧ (k : Nat) < vs.length) (hp : zpre vs k) (hdg : decode cc pc = .ok (.astore_n k, 1)) (kk : ∀ ls', zls ls' nL (vs.set k (some (va_rf r))) → W p l e R s m args below meth c H locs cells slots Q (F0 m (pc + 1) ls' rest)) : W p l e R s m args below meth c H locs cells slots Q (F0 m pc ls (va_rf r :: rest)) := by
  cases r with
  | none => exact lv_astore_nN X0.2.2.1 X0.2.2.2.1 hdg rfl hl.lv hk.1 rfl (fun ls' h => kk ls' (zls.st hp hk.2 h))
  | some a => exact lv_astore_n X0.2.2.1 X0.2.2.2.1 hdg rfl hl.lv hk.1 rfl (fun ls' h => kk ls' (zls.st hp hk.2 h))
theorem z_astore (X0 : zX Γ p l s m meth c y0 cc nL ret hh) (hl : zls ls nL vs) (hk : i < nL ∧ i < vs.length) (hp : zpre vs i) (hdg : decode cc pc = .ok (.astore i, 2)) (kk : ∀ ls', zls ls' nL (vs.set i (some (va_rf r))) → W p l e R s m args below meth c H locs cells slots Q (F0 m (pc + 2) ls' rest)) : W p l e R s m args below meth c H locs cells slots Q (F0 m pc ls (va_rf r :: rest)) := by
  cases r with
  | none => exact lv_astoreN X0.2.2.1 X0.2.2.2.1 hdg hl.lv hk.1 rfl (fun ls' h => kk ls' (zls.st hp hk.2 h))
  | some a => exact lv_astore X0.2.2.1 X0.2.2.2.1 hdg hl.lv hk.1 rfl (fun ls' h => kk ls' (zls.st hp hk.2 h))
theorem z_iinc {n : Int} (X0 : zX Γ p l s m meth c y0 cc nL ret hh) (hl : zls ls nL vs) (hv : vs[i]? = some (some (.int x))) (hk : i < nL ∧ i < vs.length) (hp : zpre vs i) {w : Int32} (hw : x + Int32.ofInt n = w) (hdg : decode cc pc = .ok (.iinc i n, 3)) (kk : ∀ ls', zls ls' nL (vs.set i (some (.int w))) → W p l e R s m args below meth c H locs cells slots Q (F0 m (pc + 3) ls' rest)) : W p l e R s m args below meth c H locs cells slots Q (F0 m pc ls rest) := by
  obtain ⟨k, hk2⟩ := List.getElem?_of_mem (zlv_mem.mpr hv)
  exact lv_iinc X0.2.2.1 X0.2.2.2.1 hdg hl.lv hk2 hw hk.1 rfl (fun ls' h => kk ls' (zls.st hp hk.2 h))
theorem z_ifnull (X0 : zX Γ p l s m meth c y0 cc nL ret hh) (hdg : decode cc pc = .ok (.ifnull off, 3)) (ht : (pc : Int) + off = (tgt : Int)) (kt : r = none → W p l e R s m args below meth c H locs cells slots Q (F0 m tgt ls rest)) (kf : ¬ r = none → W p l e R s m args below meth c H locs cells slots Q (F0 m (pc + 3) ls rest)) : W p l e R s m args below meth c H locs cells slots Q (F0 m pc ls (va_rf r :: rest)) := by
  cases r with
  | none => exact lv_ifnullN X0.2.2.1 X0.2.2.2.1 hdg ht (kt rfl)
  | some a => exact lv_ifnull X0.2.2.1 X0.2.2.2.1 hdg (kf (fun h => by cases h))
theorem z_ifnonnull (X0 : zX Γ p l s m meth c y0 cc nL ret hh) (hdg : decode cc pc = .ok (.ifnonnull off, 3)) (ht : (pc : Int) + off = (tgt : Int)) (kt : ¬ r = none → W p l e R s m args below meth c H locs cells slots Q (F0 m tgt ls rest)) (kf : r = none → W p l e R s m args below meth c H locs cells slots Q (F0 m (pc + 3) ls rest)) : W p l e R s m args below meth c H locs cells slots Q (F0 m pc ls (va_rf r :: rest)) := by
  cases r with
  | none => exact lv_ifnonnullN X0.2.2.1 X0.2.2.2.1 hdg (kf rfl)
  | some a => exact lv_ifnonnull X0.2.2.1 X0.2.2.2.1 hdg ht (kt (fun h => by cases h))
theorem z_c0 : (([] : List Value).map fun v => v.category).sum ≤ 0 := Nat.le_refl 0
theorem z_cI {st : List Value} {n : Nat} (h : (st.map fun v => v.category).sum ≤ n) : (((.int x : Value) :: st).map fun v => v.category).sum ≤ n + 1 := by
  rw [List.map_cons, List.sum_cons]; show 1 + _ ≤ _; omega
theorem z_cR {st : List Value} {n : Nat} (h : (st.map fun v => v.category).sum ≤ n) : ((va_rf r :: st).map fun v => v.category).sum ≤ n + 1 := by
  rw [List.map_cons, List.sum_cons, z_cat_rf]; omega
theorem z_cJ {st : List Value} {n : Nat} {w : Int64} (h : (st.map fun v => v.category).sum ≤ n) : (((.long w : Value) :: st).map fun v => v.category).sum ≤ n + 2 := by
  rw [List.map_cons, List.sum_cons]; show 2 + _ ≤ _; omega
theorem z_cD {st : List Value} {n : Nat} {w : UInt64} (h : (st.map fun v => v.category).sum ≤ n) : (((.double w : Value) :: st).map fun v => v.category).sum ≤ n + 2 := by
  rw [List.map_cons, List.sum_cons]; show 2 + _ ≤ _; omega
theorem z_I0 {fr lo : Nat} {g : zH} (hR : R = zRm fr lo g) (h : zR Γ g s.heap) : zI Γ R s g s.heap [] 0 0 := by
  subst hR
  exact ⟨h, (fun q hq => by cases hq), rfl, rfl, Nat.le_refl _, Nat.le_refl _⟩
end ZLR
/-- fuel enough for every loop -/
def zfu : Nat := 1000
def zbd {α β : Type} (x : Option (α × zH)) (f : α → zH → Option β) : Option β := match x with
  | some (a, g) => f a g
  | none => none
theorem zb2 {α β : Type} {x : Option (α × zH)} {f : α → zH → Option β} {y : β} (h : zbd x f = some y) : ∃ a g, x = some (a, g) ∧ f a g = some y := by
  rcases x with _ | ⟨a, g⟩
  · cases h
  · exact ⟨a, g, rfl, h⟩
def zbx {α β : Type} (x : Option ((α ⊕ Nat) × zH)) (f : α → zH → Option β) (k : Nat → zH → Option β) : Option β := match x with
  | some (.inl a, g) => f a g
  | some (.inr q, g) => k q g
  | none => none
theorem zb3 {α β : Type} {x : Option ((α ⊕ Nat) × zH)} {f : α → zH → Option β} {k : Nat → zH → Option β} {y : β} (h : zbx x f k = some y) : (∃ a g, x = some (.inl a, g) ∧ f a g = some y) ∨ ∃ q g, x = some (.inr q, g) ∧ k q g = some y := by
  rcases x with _ | ⟨a | q, g⟩
  · cases h
  · exact Or.inl ⟨a, g, rfl, h⟩
  · exact Or.inr ⟨q, g, rfl, h⟩
def zcI (z : Int32 ⊕ Nat) : Option Value ⊕ Nat := match z with
  | .inl v => .inl (some (.int v))
  | .inr q => .inr q
def zcR (z : Option Nat ⊕ Nat) : Option Value ⊕ Nat := match z with
  | .inl v => .inl (some (va_rf v))
  | .inr q => .inr q
def zcU (z : Unit ⊕ Nat) : Option Value ⊕ Nat := match z with
  | .inl _ => .inl none
  | .inr q => .inr q
def zcD (z : UInt64 ⊕ Nat) : Option Value ⊕ Nat := match z with
  | .inl v => .inl (some (.double v))
  | .inr q => .inr q
