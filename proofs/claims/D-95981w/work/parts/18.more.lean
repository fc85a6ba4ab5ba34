set_option maxRecDepth 100000
/-- a cast that is good: null, or an object of one of these classes -/
def cst_ {β : Type} (k : kc_T) (h : hp_T) (r : Option Nat) (cs : List Nat) (x : Option β) : Option β := match r with
  | none => x
  | some a => match cls_ k h (some a) with
    | some ci => if ci ∈ cs then x else none
    | none => none
theorem cst_some {β : Type} {k : kc_T} {h : hp_T} {r : Option Nat} {cs : List Nat} {x : Option β} {y : β} (e : cst_ k h r cs x = some y) : (r = none ∨ ∃ a ci, r = some a ∧ cls_ k h (some a) = some ci ∧ ci ∈ cs) ∧ x = some y := by
  cases r with
  | none => exact ⟨Or.inl rfl, e⟩
  | some a =>
    simp only [cst_] at e
    split at e
    · next ci hci =>
      split at e
      · next hm => exact ⟨Or.inr ⟨a, ci, rfl, hci, hm⟩, e⟩
      · cases e
    · cases e
/-- a test of an object's class: 1 for these, 0 for those -/
def ins_ (k : kc_T) (h : hp_T) (r : Option Nat) (ys ns : List Nat) : Option Int32 := match r with
  | none => some 0
  | some a => match cls_ k h (some a) with
    | some ci => if ci ∈ ys then some 1 else if ci ∈ ns then some 0 else none
    | none => none
theorem ins_some {k : kc_T} {h : hp_T} {r : Option Nat} {ys ns : List Nat} {v : Int32} (e : ins_ k h r ys ns = some v) : (r = none ∧ v = 0) ∨ ∃ a ci, r = some a ∧ cls_ k h (some a) = some ci ∧ ((ci ∈ ys ∧ v = 1) ∨ (ci ∈ ns ∧ v = 0)) := by
  cases r with
  | none => cases e; exact Or.inl ⟨rfl, rfl⟩
  | some a =>
    simp only [ins_] at e
    split at e
    · next ci hci =>
      split at e
      · next hm => cases e; exact Or.inr ⟨a, ci, rfl, hci, Or.inl ⟨hm, rfl⟩⟩
      · split at e
        · next hm => cases e; exact Or.inr ⟨a, ci, rfl, hci, Or.inr ⟨hm, rfl⟩⟩
        · cases e
    · cases e
/-- a cast of an own array -/
def csA_ {β : Type} (h : hp_T) (r : Option Nat) (t : Nat) (x : Option β) : Option β := match r with
  | none => none
  | some a => match h.1 a with
    | some (.inl q) => if q.1 = t then x else none
    | _ => none
theorem csA_some {β : Type} {h : hp_T} {r : Option Nat} {t : Nat} {x : Option β} {y : β} (e : csA_ h r t x = some y) : (∃ a q, r = some a ∧ h.1 a = some (.inl (t, q))) ∧ x = some y := by
  cases r with
  | none => cases e
  | some a =>
    simp only [csA_] at e
    split at e
    · next q hq =>
      split at e
      · next hm => subst hm; exact ⟨⟨a, q.2, rfl, hq⟩, e⟩
      · cases e
    · cases e
section RM
variable {p : Program} {l : Launch} {e : Env} {R : Room} {s : State} {m : MethodId} {args : Array Value} {below : List Frame} {meth : Method} {c : Code} {H : Heap} {locs : List Loc} {cells slots : Nat} {Q : State → Prop}
variable {cc : ByteArray} {nL : Nat} {ret : Option FieldType} {own : String} {k : kc_T} {G : gx_T} {h0 h h' : hp_T} {fr lo : Nat} {pc : Nat} {ls : Array Slot} {rest : List Value}
theorem r_cast (C : cx_ p l R s m args meth c cc nL ret own k G h0 fr lo) (N : nw_ k G s h0 h H locs) {r : Option Nat} {cs : List Nat} {index : Nat} (hcl : r = none ∨ ∃ a ci, r = some a ∧ cls_ k h (some a) = some ci ∧ ci ∈ cs) {nm : String} (hcas : ∀ ci ∈ cs, cas_ s (cn_ ci) nm ∨ cn_ ci = nm) (hlink : Cond.classLink own index nm ∈ lw_all) (hdg : decode cc pc = .ok (.checkcast index, 3))
    (kk : W p l e R s m args below meth c H locs cells slots Q (F0 m (pc + 3) ls (va_rf r :: rest))) : W p l e R s m args below meth c H locs cells slots Q (F0 m pc ls (va_rf r :: rest)) := by
  rcases hcl with rfl | ⟨a, ci, rfl, h1, h2⟩
  · exact lv_castN C.1 C.2.1 hdg kk
  · exact r_castY C N h1 (hcas ci h2) hlink hdg kk
theorem r_inst (C : cx_ p l R s m args meth c cc nL ret own k G h0 fr lo) (N : nw_ k G s h0 h H locs) {r : Option Nat} {ys ns : List Nat} {v : Int32} {index : Nat} (hv : ins_ k h r ys ns = some v) {nm : String} (hcas : ∀ ci ∈ ys, cas_ s (cn_ ci) nm ∨ cn_ ci = nm) (hnc : ∀ ci ∈ ns, (cn_ ci, nm) ∈ nc_L) (hlink : Cond.classLink own index nm ∈ lw_all) (hdg : decode cc pc = .ok (.instanceof index, 3))
    (kk : W p l e R s m args below meth c H locs cells slots Q (F0 m (pc + 3) ls (.int v :: rest))) : W p l e R s m args below meth c H locs cells slots Q (F0 m pc ls (va_rf r :: rest)) := by
  rcases ins_some hv with ⟨rfl, rfl⟩ | ⟨a, ci, rfl, h1, h2⟩
  · exact lv_instN C.1 C.2.1 hdg kk
  · rcases h2 with ⟨h2, rfl⟩ | ⟨h2, rfl⟩
    · exact r_instY C N h1 (hcas ci h2) hlink hdg kk
    · exact r_instNo C N h1 (hnc ci h2) hlink hdg kk
theorem r_castA (t : Nat) (C : cx_ p l R s m args meth c cc nL ret own k G h0 fr lo) (N : nw_ k G s h0 h H locs) {a : Nat} {q : vp_A} {index : Nat} (ho : h.1 a = some (.inl (t, q))) {nm : String} (hnm : s.vm.findClass nm = some (G.2.1 t)) (hlink : Cond.classLink own index nm ∈ lw_all) (hdg : decode cc pc = .ok (.checkcast index, 3))
    (kk : W p l e R s m args below meth c H locs cells slots Q (F0 m (pc + 3) ls (.ref a :: rest))) : W p l e R s m args below meth c H locs cells slots Q (F0 m pc ls (.ref a :: rest)) := by
  obtain ⟨hx, hb, -, -, -, hown, hts, K, -⟩ := C
  exact va_castA hx hb hown (hts _ hlink) (hp_at N.1 ho) 0 rfl hnm hdg kk
/-- the field 'wants' of any of the people -/
theorem r_wants (C : cx_ p l R s m args meth c cc nL ret own k G h0 fr lo) (N : nw_ k G s h0 h H locs) {a : Nat} {v : Int32} (hv : gI_ h (some a) [6, 7, 8, 9] 0 = some v) {index : Nat} (hlink : Cond.fieldLink own index "AdjectiveCoupons$One" "wants" "I" ∈ lw_all) (hdg : decode cc pc = .ok (.getfield index, 3))
    (kk : W p l e R s m args below meth c H locs cells slots Q (F0 m (pc + 3) ls (.int v :: rest))) : W p l e R s m args below meth c H locs cells slots Q (F0 m pc ls (.ref a :: rest)) := by
  obtain ⟨hx, hb, -, -, -, hown, hts, K, -⟩ := C
  obtain ⟨a', o, ha, ho, hci, hf⟩ := gI_some hv
  cases ha
  obtain ⟨ci, fs⟩ := o
  simp only [List.mem_cons, List.not_mem_nil, or_false] at hci
  rcases hci with rfl | rfl | rfl | rfl
  · exact va_get hx hb hts in_X7 hown K.1 (hp_at N.1 ho) 0 rfl rfl 0 (by decide) (hts _ hlink) (fun x h9 => h9) hf hdg kk
  · exact va_get hx hb hts in_X8 hown K.1 (hp_at N.1 ho) 0 rfl rfl 0 (by decide) (hts _ hlink) (fun x h9 => h9) hf hdg kk
  · exact va_get hx hb hts in_X9 hown K.1 (hp_at N.1 ho) 0 rfl rfl 0 (by decide) (hts _ hlink) (fun x h9 => h9) hf hdg kk
  · exact va_get hx hb hts in_X10 hown K.1 (hp_at N.1 ho) 0 rfl rfl 0 (by decide) (hts _ hlink) (fun x h9 => h9) hf hdg kk
theorem pV_cls {hh : hp_T} {a : Nat} {cs : List Nat} {j : Nat} {v : Value} {h2 : hp_T} (hv : pV_ hh (some a) cs j v = some h2) : ∃ ci ∈ cs, pV_ hh (some a) [ci] j v = some h2 := by
  obtain ⟨a', o, ha, ho, hci, hl, rfl⟩ := pV_some hv
  cases ha
  exact ⟨o.1, hci, by simp [pV_, ho, hl]⟩
theorem r_putW (C : cx_ p l R s m args meth c cc nL ret "AdjectiveCoupons$One" k G h0 fr lo) (N : nw_ k G s h0 h H locs) {a : Nat} {v : Int32} (hv : pV_ h (some a) [6, 7, 8, 9] 0 (.int v) = some h') {index : Nat} (hlink : Cond.fieldLink "AdjectiveCoupons$One" index "AdjectiveCoupons$One" "wants" "I" ∈ lw_all) (hin2 : meth.name = "<init>") (hdg : decode cc pc = .ok (.putfield index, 3))
    (kk : ∀ (H1 : Heap) (locs1 : List Loc), nw_ k G s h0 h' H1 locs1 → W p l e R s m args below meth c H1 locs1 (h_sz h' - h_sz h0) (h_sl h' - h_sl h0) Q (F0 m (pc + 3) ls rest)) : W p l e R s m args below meth c H locs (h_sz h - h_sz h0) (h_sl h - h_sl h0) Q (F0 m pc ls (.int v :: .ref a :: rest)) := by
  obtain ⟨ci, hci, hv⟩ := pV_cls hv
  simp only [List.mem_cons, List.not_mem_nil, or_false] at hci
  rcases hci with rfl | rfl | rfl | rfl
  · exact r_putF C N hv in_X7 tyX7 tyX7_ok nmX7 rfl (by decide) hlink rfl rfl hin2 rfl rfl rfl hdg kk
  · exact r_putF C N hv in_X8 tyX8 tyX8_ok nmX8 rfl (by decide) hlink rfl rfl hin2 rfl rfl rfl hdg kk
  · exact r_putF C N hv in_X9 tyX9 tyX9_ok nmX9 rfl (by decide) hlink rfl rfl hin2 rfl rfl rfl hdg kk
  · exact r_putF C N hv in_X10 tyX10 tyX10_ok nmX10 rfl (by decide) hlink rfl rfl hin2 rfl rfl rfl hdg kk
theorem lr_ifnonnull (hexec : p.tables.exec = Jvm.exec) (hb : c.code = cc) {r : Option Nat} {off : Int} {tgt : Nat} (hdg : decode cc pc = .ok (.ifnonnull off, 3)) (ht : (pc : Int) + off = (tgt : Int)) (kt : ¬ r = none → W p l e R s m args below meth c H locs cells slots Q (F0 m tgt ls rest)) (kf : r = none → W p l e R s m args below meth c H locs cells slots Q (F0 m (pc + 3) ls rest)) : W p l e R s m args below meth c H locs cells slots Q (F0 m pc ls (va_rf r :: rest)) := by
  cases r with
  | none => exact lv_ifnonnullN hexec hb hdg (kf rfl)
  | some a => exact lv_ifnonnull hexec hb hdg ht (kt (fun z => by cases z))
theorem cpA_S1 {rs rd : Option Nat} {sp dp n : Int32} {t : Nat} (e : cpA_ h rs sp rd dp n t = some h') : ∃ a, rs = some a := (cpA_S e).1
theorem cpA_S2 {rs rd : Option Nat} {sp dp n : Int32} {t : Nat} (e : cpA_ h rs sp rd dp n t = some h') : ∃ a, rd = some a := (cpA_S e).2
theorem cpQ_S1 {rs rd : Option Nat} {sp dp n : Int32} (e : cpQ_ h rs sp rd dp n = some h') : ∃ a, rs = some a := (cpQ_S e).1
theorem cpQ_S2 {rs rd : Option Nat} {sp dp n : Int32} (e : cpQ_ h rs sp rd dp n = some h') : ∃ a, rd = some a := (cpQ_S e).2
theorem csA_S {β : Type} {r : Option Nat} {t : Nat} {x : Option β} {y : β} (e : csA_ h r t x = some y) : ∃ a, r = some a := by
  obtain ⟨⟨a, q, h1, -⟩, -⟩ := csA_some e
  exact ⟨a, h1⟩
end RM
theorem nf_X1 : ∀ j, j < 7 → defaultValue (tyX1 j) = vp_V [.null, .null, .null, .null, .null, .null, .int 0] j := by decide +kernel
theorem nf_X0 : ∀ j, j < 24 → defaultValue (tyX0 j) = vp_V [.null, .int 0, .null, .int 0, .null, .int 0, .int 0, .int 0, .null, .null, .null, .int 0, .null, .int 0, .null, .int 0, .null, .null, .null, .int 0, .null, .null, .int 0, .int 0] j := by decide +kernel
theorem nf_X2 : ∀ j, j < 35 → defaultValue (tyX2 j) = vp_V [.null, .int 0, .null, .null, .int 0, .null, .int 0, .null, .null, .int 0, .null, .int 0, .null, .null, .int 0, .int 0, .int 0, .null, .int 0, .null, .null, .int 0, .int 0, .int 0, .int 0, .int 0, .int 0, .int 0, .null, .int 0, .null, .null, .int 0, .int 0, .null] j := by decide +kernel
theorem nf_X3 : ∀ j, j < 9 → defaultValue (tyX3 j) = vp_V [.int 0, .int 0, .null, .int 0, .int 0, .int 0, .null, .int 0, .null] j := by decide +kernel
theorem nf_X4 : ∀ j, j < 7 → defaultValue (tyX4 j) = vp_V [.null, .null, .null, .null, .null, .int 0, .int 0] j := by decide +kernel
theorem nf_X5 : ∀ j, j < 2 → defaultValue (tyX5 j) = vp_V [.null, .int 0] j := by decide +kernel
theorem nf_X7 : ∀ j, j < 1 → defaultValue (tyX7 j) = vp_V [.int 0] j := by decide +kernel
theorem nf_X8 : ∀ j, j < 1 → defaultValue (tyX8 j) = vp_V [.int 0] j := by decide +kernel
theorem nf_X9 : ∀ j, j < 1 → defaultValue (tyX9 j) = vp_V [.int 0] j := by decide +kernel
theorem nf_X10 : ∀ j, j < 1 → defaultValue (tyX10 j) = vp_V [.int 0] j := by decide +kernel
theorem nf_J2 : ∀ j, j < 4 → defaultValue (tyJ2 j) = vp_V [.null, .int 0, .int 0, .int 0] j := by decide +kernel
theorem nf_J3 : ∀ j, j < 4 → defaultValue (tyJ3 j) = vp_V [.null, .int 0, .int 0, .int 0] j := by decide +kernel
/-- a String constant -/
def lS_ (k : kc_T) (i : Nat) : Option Nat := (sR_ k (100 + i)).bind fun r => r
theorem lS_some {k : kc_T} {i a : Nat} (e : lS_ k i = some a) : sR_ k (100 + i) = some (some a) := by
  unfold lS_ at e
  obtain ⟨r, h1, h2⟩ := Option.bind_eq_some_iff.mp e
  rw [h1, h2]
theorem i8_id {v : Int32} (h1 : -128 ≤ v) (h2 : v ≤ 127) : v.toInt8.toInt32 = v := by
  have a := Int32.le_iff_toInt_le.mp h1
  have b := Int32.le_iff_toInt_le.mp h2
  apply Int32.toInt_inj.mp
  rw [Int8.toInt_toInt32, Int32.toInt_toInt8]
  have c : (-128 : Int32).toInt = -128 := rfl
  have d : (127 : Int32).toInt = 127 := rfl
  rw [c] at a
  rw [d] at b
  rw [Int.bmod_eq_of_le (by omega) (by omega)]
theorem nar_fit {ty : FieldType} (sh : ty = .short → False) {v : Int32} (h : ¬ ¬ fits ty (.int v) = true) : narrow ty (.int v) = .int v := by
  have h := Decidable.not_not.mp h
  cases ty with
  | boolean =>
    have h : v = 0 ∨ v = 1 := by simpa [fits] using h
    exact bz_ok h
  | byte =>
    have h : -128 ≤ v ∧ v ≤ 127 := by simpa [fits] using h
    show Value.int v.toInt8.toInt32 = .int v
    rw [i8_id h.1 h.2]
  | char =>
    have h : 0 ≤ v ∧ v ≤ 65535 := by simpa [fits] using h
    obtain ⟨j, hj, rfl⟩ := nI_of2 (n := 65535) (M := 65535) rfl (Int32.not_lt.mpr h.1) h.2
    exact (pk_charN (by omega)).1
  | short => cases sh rfl
  | int => rfl
  | _ => simp [fits] at h
section RTN
variable {p : Program} {l : Launch} {e : Env} {R : Room} {s : State} {m : MethodId} {args : Array Value} {below : List Frame} {meth : Method} {c : Code} {H : Heap} {locs : List Loc}
variable {cc : ByteArray} {nL : Nat} {ty : FieldType} {own : String} {k : kc_T} {G : gx_T} {h0 h : hp_T} {fr lo : Nat} {pc : Nat} {ls : Array Slot}
theorem rt_n (C : cx_ p l R s m args meth c cc nL (some ty) own k G h0 fr lo) (N : nw_ k G s h0 h H locs) {v : Int32} (hn : narrow ty (.int v) = .int v) (hdg : decode cc pc = .ok (.ireturn, 1)) : W p l e R s m args below meth c H locs (h_sz h - h_sz h0) (h_sl h - h_sl h0) (mq_ below k G h0 (some (.int v)) h args s) (F0 m pc ls [.int v]) := by
  obtain ⟨hx, hb, -, hr, hlocks, -⟩ := C
  exact W.zret hx hb hr hn (fun t ht hW => ⟨rfl, by rw [ht]; exact N.1, N.2.1.F ht, N.2.2⟩) N.2.1.2.2 hdg
end RTN
