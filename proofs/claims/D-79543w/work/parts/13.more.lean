/-! small helpers; default fields; rows for receivers, casts, new arrays -/
theorem zlt {a b : Nat} (h : Nat.ble (a + 1) b = true) : a < b := Nat.le_of_ble_eq_true h
theorem znat {a b : Nat} (h : Nat.ble a b = true) : a ≤ b := Nat.le_of_ble_eq_true h
noncomputable def znn {α : Type} (P : Prop) (x : Option α) : Option α := @ite _ P (Classical.propDecidable P) x none
theorem znn_spec {α : Type} {P : Prop} {x : Option α} {y : α} (h : znn P x = some y) : P ∧ x = some y := by
  unfold znn at h
  by_cases hP : P
  · exact ⟨hP, (if_pos hP).symm.trans h⟩
  · have h9 := (if_neg hP).symm.trans h; cases h9
/-- the receiver of a call: it is there, and of that class -/
def zrc (g : zH) (r : Option Nat) (ci : Nat) : Option Nat := match r with
  | none => none
  | some a => if zcls g a = some ci then some a else none
theorem zrc_spec {g : zH} {r : Option Nat} {ci a : Nat} (h : zrc g r ci = some a) : r = some a ∧ zob g a ci := by
  unfold zrc at h
  cases r with
  | none => cases h
  | some b =>
    dsimp only at h
    by_cases hc : zcls g b = some ci
    · rw [if_pos hc] at h; cases h; exact ⟨rfl, zcls_spec hc⟩
    · rw [if_neg hc] at h; cases h
/-- a cast to a class of the list -/
def zck {α : Type} (g : zH) (r : Option Nat) (ci : Nat) (x : Option α) : Option α := match r with
  | none => x
  | some a => if zcls g a = some ci then x else none
theorem zck_spec {α : Type} {g : zH} {r : Option Nat} {ci : Nat} {x : Option α} {y : α} (h : zck g r ci x = some y) : (∀ a, r = some a → zcls g a = some ci) ∧ x = some y := by
  unfold zck at h
  cases r with
  | none => exact ⟨fun a ha => (by cases ha), h⟩
  | some b =>
    dsimp only at h
    by_cases hc : zcls g b = some ci
    · rw [if_pos hc] at h; exact ⟨fun a ha => by cases ha; exact hc, h⟩
    · rw [if_neg hc] at h; cases h
theorem z_tout {x : Int32} {lo : Int} {n : Nat} {hi : Int} (h : ∀ k : Nat, k < n → ¬ x = Int32.ofInt (lo + k)) (hhi : hi = lo + n - 1 := by rfl) (hb : -2147483648 ≤ lo ∧ lo + n ≤ 2147483648 := by decide) : x.toInt < lo ∨ hi < x.toInt := by
  by_cases h1 : x.toInt < lo
  · exact Or.inl h1
  · refine Or.inr (Int.not_le.mp fun h2 => ?_)
    obtain ⟨k, hk⟩ := Int.eq_ofNat_of_zero_le (show 0 ≤ x.toInt - lo by omega)
    refine h k (by omega) ?_
    apply Int32.toInt_inj.mp
    rw [Int32.toInt_ofInt_of_le (by omega) (by omega)]
    omega
section ZR4
variable {Γ : zG} {p : Program} {l : Launch} {e : Env} {R : Room} {s : State} {m : MethodId} {args : Array Value} {below : List Frame} {meth : Method} {c : Code} {H : Heap} {locs : List Loc} {cells slots pc : Nat} {ls : Array Slot} {rest : List Value} {g g0 g1 : zH} {Q : State → Prop}
variable {y0 : MethodName} {cc : ByteArray} {nL index : Nat} {ret : Option FieldType} {hh : List (Nat × Nat × Nat × Nat)} {C : String} {T0 : u_T} {N ci a : Nat} {r : Option Nat} {i : Int32}
theorem z_sf {ref decl n d : String} (X0 : zX Γ p l s m meth c y0 cc nL ret hh) (h : Cond.sameField ref decl n d ∈ lw_all) : ∀ x, s.fieldFound? decl n d = some x → s.fieldFound? ref n d = some x := fun x hx => u_same (z_w (args := #[]) X0.1 X0.2.1 h) x hx
theorem z_ck (X0 : zX Γ p l s m meth c y0 cc nL ret hh) (hI : zI Γ R s g H locs cells slots) (hc : zcl[ci]? = some (C, T0, N)) (ho : ∀ a, r = some a → zcls g a = some ci) (hl : Cond.classLink y0.cls index C ∈ lw_all) (hdg : decode cc pc = .ok (.checkcast index, 3)) (kk : W p l e R s m args below meth c H locs cells slots Q (F0 m (pc + 3) ls (va_rf r :: rest))) : W p l e R s m args below meth c H locs cells slots Q (F0 m pc ls (va_rf r :: rest)) := by
  cases r with
  | none => exact z_castN X0 hdg kk
  | some a => exact z_castS X0 hI hc (ho a rfl) hl hdg kk
theorem z_newI (X0 : zX Γ p l s m meth c y0 cc nL ret hh) (hI : zI Γ R s g H locs cells slots) (harr : Cond.arrayClass (newarray.typeOf .int) ∈ lw_all) (hv : znA g 0 i (.inl (fun _ => 0)) = some (a, g1)) (hdg : decode cc pc = .ok (.newarray .int, 2))
    (kk : ∀ (H1 : Heap) (c1 n1 : Nat), zI Γ R s g1 H1 locs c1 n1 → W p l e R s m args below meth c H1 locs c1 n1 Q (F0 m (pc + 2) ls (va_rf (some a) :: rest))) : W p l e R s m args below meth c H locs cells slots Q (F0 m pc ls (.int i :: rest)) :=
  z_newa X0 hI (t := 0) (ty := .int) rfl rfl (fun C h => by cases h) harr (fun n cA => arrV_new _ _ _) hv hdg kk
theorem z_newJ (X0 : zX Γ p l s m meth c y0 cc nL ret hh) (hI : zI Γ R s g H locs cells slots) (harr : Cond.arrayClass (newarray.typeOf .long) ∈ lw_all) (hv : znA g 1 i (.inr (.inl (fun _ => 0))) = some (a, g1)) (hdg : decode cc pc = .ok (.newarray .long, 2))
    (kk : ∀ (H1 : Heap) (c1 n1 : Nat), zI Γ R s g1 H1 locs c1 n1 → W p l e R s m args below meth c H1 locs c1 n1 Q (F0 m (pc + 2) ls (va_rf (some a) :: rest))) : W p l e R s m args below meth c H locs cells slots Q (F0 m pc ls (.int i :: rest)) :=
  z_newa X0 hI (t := 1) (ty := .long) rfl rfl (fun C h => by cases h) harr (fun n cA => arrV_new _ _ _) hv hdg kk
theorem z_newD (X0 : zX Γ p l s m meth c y0 cc nL ret hh) (hI : zI Γ R s g H locs cells slots) (harr : Cond.arrayClass (newarray.typeOf .double) ∈ lw_all) (hv : znA g 2 i (.inr (.inr (.inr (.inl (fun _ => FP.dconst0))))) = some (a, g1)) (hdg : decode cc pc = .ok (.newarray .double, 2))
    (kk : ∀ (H1 : Heap) (c1 n1 : Nat), zI Γ R s g1 H1 locs c1 n1 → W p l e R s m args below meth c H1 locs c1 n1 Q (F0 m (pc + 2) ls (va_rf (some a) :: rest))) : W p l e R s m args below meth c H locs cells slots Q (F0 m pc ls (.int i :: rest)) :=
  z_newa X0 hI (t := 2) (ty := .double) rfl rfl (fun C h => by cases h) harr (fun n cA => arrV_new _ _ _) hv hdg kk
theorem z_newC (X0 : zX Γ p l s m meth c y0 cc nL ret hh) (hI : zI Γ R s g H locs cells slots) (harr : Cond.arrayClass (newarray.typeOf .char) ∈ lw_all) (hv : znA g 3 i (.inl (fun _ => 0)) = some (a, g1)) (hdg : decode cc pc = .ok (.newarray .char, 2))
    (kk : ∀ (H1 : Heap) (c1 n1 : Nat), zI Γ R s g1 H1 locs c1 n1 → W p l e R s m args below meth c H1 locs c1 n1 Q (F0 m (pc + 2) ls (va_rf (some a) :: rest))) : W p l e R s m args below meth c H locs cells slots Q (F0 m pc ls (.int i :: rest)) :=
  z_newa X0 hI (t := 3) (ty := .char) rfl rfl (fun C h => by cases h) harr (fun n cA => arrV_new _ _ _) hv hdg kk
theorem z_newB (X0 : zX Γ p l s m meth c y0 cc nL ret hh) (hI : zI Γ R s g H locs cells slots) (harr : Cond.arrayClass (newarray.typeOf .byte) ∈ lw_all) (hv : znA g 4 i (.inl (fun _ => 0)) = some (a, g1)) (hdg : decode cc pc = .ok (.newarray .byte, 2))
    (kk : ∀ (H1 : Heap) (c1 n1 : Nat), zI Γ R s g1 H1 locs c1 n1 → W p l e R s m args below meth c H1 locs c1 n1 Q (F0 m (pc + 2) ls (va_rf (some a) :: rest))) : W p l e R s m args below meth c H locs cells slots Q (F0 m pc ls (.int i :: rest)) :=
  z_newa X0 hI (t := 4) (ty := .byte) rfl rfl (fun C h => by cases h) harr (fun n cA => arrV_new _ _ _) hv hdg kk
end ZR4
def zdf0 : List Value := [.null, .null, .null, .null, .null, .int 0]
theorem znd0 : ∀ j, j < 6 → defaultValue (tyX1 j) = vp_V zdf0 j := fun j hj => match j, hj with | 0, _ => rfl | 1, _ => rfl | 2, _ => rfl | 3, _ => rfl | 4, _ => rfl | 5, _ => rfl
def zdf1 : List Value := [.null, .null, .null, .null, .null, .int 0, .int 0, .int 0, .int 0]
theorem znd1 : ∀ j, j < 9 → defaultValue (tyX2 j) = vp_V zdf1 j := fun j hj => match j, hj with | 0, _ => rfl | 1, _ => rfl | 2, _ => rfl | 3, _ => rfl | 4, _ => rfl | 5, _ => rfl | 6, _ => rfl | 7, _ => rfl | 8, _ => rfl | k + 9, h => absurd h (by omega)
def zdf2 : List Value := [.null, .int 0]
theorem znd2 : ∀ j, j < 2 → defaultValue (tyX3 j) = vp_V zdf2 j := fun j hj => match j, hj with | 0, _ => rfl | 1, _ => rfl
def zdf3 : List Value := [.int 0, .int 0, .int 0, .int 0, .int 0, .int 0]
theorem znd3 : ∀ j, j < 6 → defaultValue (tyX4 j) = vp_V zdf3 j := fun j hj => match j, hj with | 0, _ => rfl | 1, _ => rfl | 2, _ => rfl | 3, _ => rfl | 4, _ => rfl | 5, _ => rfl
def zdf4 : List Value := [.int 0, .null, .null, .null, .null, .int 0, .int 0, .int 0, .null, .null, .null, .null, .int 0, .int 0, .int 0, .null, .int 0, .int 0, .int 0, .int 0, .int 0, .int 0, .int 0]
theorem znd4 : ∀ j, j < 23 → defaultValue (tyX5 j) = vp_V zdf4 j := fun j hj => match j, hj with | 0, _ => rfl | 1, _ => rfl | 2, _ => rfl | 3, _ => rfl | 4, _ => rfl | 5, _ => rfl | 6, _ => rfl | 7, _ => rfl | 8, _ => rfl | 9, _ => rfl | 10, _ => rfl | 11, _ => rfl | 12, _ => rfl | 13, _ => rfl | 14, _ => rfl | 15, _ => rfl | 16, _ => rfl | 17, _ => rfl | 18, _ => rfl | 19, _ => rfl | 20, _ => rfl | 21, _ => rfl | 22, _ => rfl | k + 23, h => absurd h (by omega)
def zdf5 : List Value := [.null, .null, .null, .null, .null, .int 0, .int 0, .int 0]
theorem znd5 : ∀ j, j < 8 → defaultValue (tyX6 j) = vp_V zdf5 j := fun j hj => match j, hj with | 0, _ => rfl | 1, _ => rfl | 2, _ => rfl | 3, _ => rfl | 4, _ => rfl | 5, _ => rfl | 6, _ => rfl | 7, _ => rfl
def zdf6 : List Value := [.int 0, .int 0, .int 0]
theorem znd6 : ∀ j, j < 3 → defaultValue (tyX7 j) = vp_V zdf6 j := fun j hj => match j, hj with | 0, _ => rfl | 1, _ => rfl | 2, _ => rfl
def zdf7 : List Value := [.int 0, .int 0, .int 0, .int 0, .int 0, .null, .int 0]
theorem znd7 : ∀ j, j < 7 → defaultValue (tyX8 j) = vp_V zdf7 j := fun j hj => match j, hj with | 0, _ => rfl | 1, _ => rfl | 2, _ => rfl | 3, _ => rfl | 4, _ => rfl | 5, _ => rfl | 6, _ => rfl
def zdf8 : List Value := [.int 0, .int 0, .int 0]
theorem znd8 : ∀ j, j < 3 → defaultValue (tyX9 j) = vp_V zdf8 j := fun j hj => match j, hj with | 0, _ => rfl | 1, _ => rfl | 2, _ => rfl
def zdf9 : List Value := [.null, .null, .null, .null, .null, .int 0]
theorem znd9 : ∀ j, j < 6 → defaultValue (tyX10 j) = vp_V zdf9 j := fun j hj => match j, hj with | 0, _ => rfl | 1, _ => rfl | 2, _ => rfl | 3, _ => rfl | 4, _ => rfl | 5, _ => rfl
def zdf10 : List Value := [.int 0, .null, .null]
theorem znd10 : ∀ j, j < 3 → defaultValue (tyX11 j) = vp_V zdf10 j := fun j hj => match j, hj with | 0, _ => rfl | 1, _ => rfl | 2, _ => rfl
def zdf11 : List Value := [.int 0, .null, .int 0, .null]
theorem znd11 : ∀ j, j < 4 → defaultValue (tyX12 j) = vp_V zdf11 j := fun j hj => match j, hj with | 0, _ => rfl | 1, _ => rfl | 2, _ => rfl | 3, _ => rfl
def zdf12 : List Value := [.int 0, .null]
theorem znd12 : ∀ j, j < 2 → defaultValue (tyX13 j) = vp_V zdf12 j := fun j hj => match j, hj with | 0, _ => rfl | 1, _ => rfl
def zdf13 : List Value := [.null, .int 0, .null]
theorem znd13 : ∀ j, j < 3 → defaultValue (tyX14 j) = vp_V zdf13 j := fun j hj => match j, hj with | 0, _ => rfl | 1, _ => rfl | 2, _ => rfl
def zdf14 : List Value := [.null, .null, .null, .null, .null, .int 0, .int 0]
theorem znd14 : ∀ j, j < 7 → defaultValue (tyX15 j) = vp_V zdf14 j := fun j hj => match j, hj with | 0, _ => rfl | 1, _ => rfl | 2, _ => rfl | 3, _ => rfl | 4, _ => rfl | 5, _ => rfl | 6, _ => rfl
def zdf15 : List Value := [.int 0, .null, .int 0]
theorem znd15 : ∀ j, j < 3 → defaultValue (tyJ2 j) = vp_V zdf15 j := fun j hj => match j, hj with | 0, _ => rfl | 1, _ => rfl | 2, _ => rfl
def zdf16 : List Value := [.null, .int 0, .int 0, .int 0]
theorem znd16 : ∀ j, j < 4 → defaultValue (tyJ8 j) = vp_V zdf16 j := fun j hj => match j, hj with | 0, _ => rfl | 1, _ => rfl | 2, _ => rfl | 3, _ => rfl
def zdf17 : List Value := [.null, .int 0, .int 0]
theorem znd17 : ∀ j, j < 3 → defaultValue (tyJ18 j) = vp_V zdf17 j := fun j hj => match j, hj with | 0, _ => rfl | 1, _ => rfl | 2, _ => rfl
def zdf18 : List Value := [.int 0, .int 0, .int 0, .null]
theorem znd18 : ∀ j, j < 4 → defaultValue (tyJ21 j) = vp_V zdf18 j := fun j hj => match j, hj with | 0, _ => rfl | 1, _ => rfl | 2, _ => rfl | 3, _ => rfl
def zdf19 : List Value := [.int 0]
theorem znd19 : ∀ j, j < 1 → defaultValue (tyJ17 j) = vp_V zdf19 j := fun j hj => match j, hj with | 0, _ => rfl
