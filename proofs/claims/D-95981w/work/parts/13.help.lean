set_option maxRecDepth 100000
/-! helpers of the printed functions and walks -/
def bd_ {α β : Type} (x : Option (α × hp_T)) (f : α → hp_T → Option β) : Option β := match x with
  | none => none
  | some q => f q.1 q.2
theorem bd_some {α β : Type} {x : Option (α × hp_T)} {f : α → hp_T → Option β} {r : β} (e : bd_ x f = some r) : ∃ a h, x = some (a, h) ∧ f a h = some r := by
  cases x with
  | none => cases e
  | some q => exact ⟨q.1, q.2, rfl, e⟩
/-- the receiver is of class ci -/
def ck_ {β : Type} (k : kc_T) (h : hp_T) (r : Option Nat) (ci : Nat) (x : Option β) : Option β := if cls_ k h r = some ci then x else none
theorem ck_some {β : Type} {k : kc_T} {h : hp_T} {r : Option Nat} {ci : Nat} {x : Option β} {y : β} (e : ck_ k h r ci x = some y) : cls_ k h r = some ci ∧ x = some y := by
  unfold ck_ at e
  split at e
  · next hc => exact ⟨hc, e⟩
  · cases e
theorem ite_none {c : Prop} [Decidable c] {β : Type} {x : Option β} {y : β} (e : (if c then none else x) = some y) : ¬ c ∧ x = some y := by
  split at e
  · cases e
  · next hc => exact ⟨hc, e⟩
theorem ite_some {c : Prop} [Decidable c] {β : Type} {x : Option β} {y : β} (e : (if c then x else none) = some y) : c ∧ x = some y := by
  split at e
  · next hc => exact ⟨hc, e⟩
  · cases e
theorem gI_S {h : hp_T} {r : Option Nat} {cs : List Nat} {j : Nat} {v : Int32} (e : gI_ h r cs j = some v) : ∃ a, r = some a := by
  obtain ⟨a, -, h, -⟩ := gI_some e
  exact ⟨a, h⟩
theorem gR_S {h : hp_T} {r : Option Nat} {cs : List Nat} {j : Nat} {v : Option Nat} (e : gR_ h r cs j = some v) : ∃ a, r = some a := by
  obtain ⟨a, -, h, -⟩ := gR_some e
  exact ⟨a, h⟩
theorem pV_S {h h' : hp_T} {r : Option Nat} {cs : List Nat} {j : Nat} {v : Value} (e : pV_ h r cs j v = some h') : ∃ a, r = some a := by
  obtain ⟨a, -, h, -⟩ := pV_some e
  exact ⟨a, h⟩
theorem gA_S {h : hp_T} {r : Option Nat} {t : Nat} {i v : Int32} (e : gA_ h r t i = some v) : ∃ a, r = some a := by
  obtain ⟨a, -, -, h, -⟩ := gA_some e
  exact ⟨a, h⟩
theorem pA_S {h h' : hp_T} {r : Option Nat} {t : Nat} {i x : Int32} (e : pA_ h r t i x = some h') : ∃ a, r = some a := by
  obtain ⟨a, -, -, h, -⟩ := pA_some e
  exact ⟨a, h⟩
theorem cat_rf {r : Option Nat} : (va_rf r).category = 1 := by cases r <;> rfl
theorem cat_i {x : Int32} : (Value.int x).category = 1 := rfl
theorem cat_l {x : Int64} : (Value.long x).category = 2 := rfl
theorem cat_r {x : Nat} : (Value.ref x).category = 1 := rfl
theorem fit_rf {t : FieldType} {r : Option Nat} (ht : (∃ n, t = .object n) ∨ ∃ n, t = .array n) : fits t (va_rf r) = true := by
  rcases ht with ⟨n, rfl⟩ | ⟨n, rfl⟩ <;> cases r <;> rfl
theorem fit_rn {t : FieldType} {r : Option Nat} (ht : (∃ n, t = .object n) ∨ ∃ n, t = .array n) : narrow t (va_rf r) = va_rf r := by
  rcases ht with ⟨n, rfl⟩ | ⟨n, rfl⟩ <;> cases r <;> rfl
theorem bz_ok {v : Int32} (h : v = 0 ∨ v = 1) : narrow .boolean (.int v) = .int v := by
  rcases h with rfl | rfl <;> rfl
theorem i32_ne {x : Int32} {y : Int32} (h : ¬ x = y) {c : Int} (hc : y.toInt = c) : x.toInt ≠ c := by
  intro e
  exact h (Int32.toInt_inj.mp (e.trans hc.symm))
section LR
variable {p : Program} {l : Launch} {e : Env} {R : Room} {s : State} {m : MethodId} {args : Array Value} {below : List Frame} {meth : Method} {c : Code} {H : Heap} {locs : List Loc} {cells slots : Nat} {Q : State → Prop}
variable {cc : ByteArray} {pc : Nat} {ls : Array Slot} {rest : List Value}
theorem lr_aload_n (hexec : p.tables.exec = Jvm.exec) (hb : c.code = cc) {k : Fin 4} {i : Nat} {r : Option Nat} (hdg : decode cc pc = .ok (.aload_n k, 1)) (hi : (k : Nat) = i) (hl : ls[i]? = some (.val (va_rf r)))
    (kk : W p l e R s m args below meth c H locs cells slots Q (F0 m (pc + 1) ls (va_rf r :: rest))) : W p l e R s m args below meth c H locs cells slots Q (F0 m pc ls rest) := by
  cases r with
  | none => exact lv_aload_nN hexec hb hdg hi hl kk
  | some a => exact lv_aload_n hexec hb hdg hi hl kk
theorem lr_aload (hexec : p.tables.exec = Jvm.exec) (hb : c.code = cc) {i : Nat} {r : Option Nat} (hdg : decode cc pc = .ok (.aload i, 2)) (hl : ls[i]? = some (.val (va_rf r)))
    (kk : W p l e R s m args below meth c H locs cells slots Q (F0 m (pc + 2) ls (va_rf r :: rest))) : W p l e R s m args below meth c H locs cells slots Q (F0 m pc ls rest) := by
  cases r with
  | none => exact lv_aloadN hexec hb hdg hl kk
  | some a => exact lv_aload hexec hb hdg hl kk
theorem lr_astore_n (hexec : p.tables.exec = Jvm.exec) (hb : c.code = cc) {k : Fin 4} {i nL : Nat} {r : Option Nat} {lv lv' : List (Nat × Value)} (hdg : decode cc pc = .ok (.astore_n k, 1)) (hi : (k : Nat) = i) (h : lv_has ls nL lv) (hn : i < nL) (hl : (i, va_rf r) :: lv.filter (fun q => !(q.1 == i) && !(q.1 + 1 == i && q.2.category == 2)) = lv')
    (kk : ∀ ls' : Array Slot, lv_has ls' nL lv' → W p l e R s m args below meth c H locs cells slots Q (F0 m (pc + 1) ls' rest)) : W p l e R s m args below meth c H locs cells slots Q (F0 m pc ls (va_rf r :: rest)) := by
  cases r with
  | none => exact lv_astore_nN hexec hb hdg hi h hn hl kk
  | some a => exact lv_astore_n hexec hb hdg hi h hn hl kk
theorem lr_astore (hexec : p.tables.exec = Jvm.exec) (hb : c.code = cc) {i nL : Nat} {r : Option Nat} {lv lv' : List (Nat × Value)} (hdg : decode cc pc = .ok (.astore i, 2)) (h : lv_has ls nL lv) (hn : i < nL) (hl : (i, va_rf r) :: lv.filter (fun q => !(q.1 == i) && !(q.1 + 1 == i && q.2.category == 2)) = lv')
    (kk : ∀ ls' : Array Slot, lv_has ls' nL lv' → W p l e R s m args below meth c H locs cells slots Q (F0 m (pc + 2) ls' rest)) : W p l e R s m args below meth c H locs cells slots Q (F0 m pc ls (va_rf r :: rest)) := by
  cases r with
  | none => exact lv_astoreN hexec hb hdg h hn hl kk
  | some a => exact lv_astore hexec hb hdg h hn hl kk
end LR
