set_option maxRecDepth 100000
/-- the class C can be cast to nm, by the tables -/
def cas_ (s : State) (C nm : String) : Prop := ∃ c t, s.vm.findClass C = some c ∧ s.vm.findClass nm = some t ∧ s.vm.assignable c t = true
theorem cas_of {s : State} {C nm : String} (h : va_Nw (.castable C nm) s) : cas_ s C nm := by
  obtain ⟨c0, t0, f1, f2, f3⟩ := Cond.castable_spec (va_Nw.use (A := #[]) rfl h)
  exact ⟨c0, t0, f1, f2, f3⟩
/-- a static number, a static reference -/
def sI_ (k : kc_T) (i : Nat) : Option Int32 := vI_ (k_st k i)
def sR_ (k : kc_T) (i : Nat) : Option (Option Nat) := vR_ (k_st k i)
theorem sI_some {k : kc_T} {i : Nat} {v : Int32} (e : sI_ k i = some v) : k_st k i = .int v := by
  unfold sI_ at e
  cases h : k_st k i <;> rw [h] at e <;> simp only [vI_] at e <;> cases e
  rfl
theorem sR_some {k : kc_T} {i : Nat} {v : Option Nat} (e : sR_ k i = some v) : k_st k i = va_rf v := by
  unfold sR_ at e
  cases h : k_st k i <;> rw [h] at e <;> simp only [vR_] at e <;> cases e <;> rfl
/-- primitive contents that an array of the type takes -/
def fitA_ (t : Nat) (x : Int32) : Bool := fits (aty_ t) (.int x)
/-- System.arraycopy of own arrays of a small type -/
def cpA_ (h : hp_T) (rs : Option Nat) (sp : Int32) (rd : Option Nat) (dp n : Int32) (t : Nat) : Option hp_T := match rs, rd with
  | some a0, some a => match h.1 a0, h.1 a with
    | some (.inl (t0, n0, .inl f)), some (.inl (t1, n1, .inl g)) =>
      if t0 = t ∧ t1 = t ∧ ¬ sp < 0 ∧ ¬ dp < 0 ∧ ¬ n < 0 ∧ sp.toNatClampNeg + n.toNatClampNeg ≤ n0 ∧ dp.toNatClampNeg + n.toNatClampNeg ≤ n1 ∧ (List.range n.toNatClampNeg).all (fun i => fitA_ t (f (sp.toNatClampNeg + i))) = true
      then some (st_ h a (.inl (t, n1, .inl (va_cpy f g sp.toNatClampNeg dp.toNatClampNeg n.toNatClampNeg)))) else none
    | _, _ => none
  | _, _ => none
theorem cpA_some {h h' : hp_T} {rs rd : Option Nat} {sp dp n : Int32} {t : Nat} (e : cpA_ h rs sp rd dp n t = some h') : ∃ a0 a n0 n1 f g, rs = some a0 ∧ rd = some a ∧ h.1 a0 = some (.inl (t, n0, .inl f)) ∧ h.1 a = some (.inl (t, n1, .inl g)) ∧
    (¬ sp < 0 ∧ ¬ dp < 0 ∧ ¬ n < 0 ∧ sp.toNatClampNeg + n.toNatClampNeg ≤ n0 ∧ dp.toNatClampNeg + n.toNatClampNeg ≤ n1 ∧ (List.range n.toNatClampNeg).all (fun i => fitA_ t (f (sp.toNatClampNeg + i))) = true) ∧ h' = st_ h a (.inl (t, n1, .inl (va_cpy f g sp.toNatClampNeg dp.toNatClampNeg n.toNatClampNeg))) := by
  unfold cpA_ at e
  split at e
  · next a0 a =>
    split at e
    · next t0 n0 f t1 n1 g e0 e1 =>
      split at e
      · next hc =>
        cases e
        obtain ⟨rfl, rfl, hc⟩ := hc
        exact ⟨a0, a, n0, n1, f, g, rfl, rfl, e0, e1, hc, rfl⟩
      · cases e
    · cases e
  · cases e
/-- System.arraycopy of an array of States within itself -/
def cpQ_ (h : hp_T) (rs : Option Nat) (sp : Int32) (rd : Option Nat) (dp n : Int32) : Option hp_T := match rs, rd with
  | some a0, some a => match h.1 a0, h.1 a with
    | some (.inl (t0, n0, .inr (.inr (.inr (.inr f))))), some (.inl (t1, n1, .inr (.inr (.inr (.inr g))))) =>
      if t0 = 5 ∧ t1 = 5 ∧ ¬ sp < 0 ∧ ¬ dp < 0 ∧ ¬ n < 0 ∧ sp.toNatClampNeg + n.toNatClampNeg ≤ n0 ∧ dp.toNatClampNeg + n.toNatClampNeg ≤ n1 ∧ (List.range n.toNatClampNeg).all (fun i => okQ_ (0, 0, fun _ => True, fun _ => .null, fun _ => none) h 5 (f (sp.toNatClampNeg + i))) = true
      then some (st_ h a (qA_ 5 n1 (va_cpy f g sp.toNatClampNeg dp.toNatClampNeg n.toNatClampNeg))) else none
    | _, _ => none
  | _, _ => none
theorem cpQ_some {h h' : hp_T} {rs rd : Option Nat} {sp dp n : Int32} (e : cpQ_ h rs sp rd dp n = some h') : ∃ a0 a n0 n1 f g, rs = some a0 ∧ rd = some a ∧ h.1 a0 = some (qA_ 5 n0 f) ∧ h.1 a = some (qA_ 5 n1 g) ∧
    (¬ sp < 0 ∧ ¬ dp < 0 ∧ ¬ n < 0 ∧ sp.toNatClampNeg + n.toNatClampNeg ≤ n0 ∧ dp.toNatClampNeg + n.toNatClampNeg ≤ n1 ∧ (List.range n.toNatClampNeg).all (fun i => okQ_ (0, 0, fun _ => True, fun _ => .null, fun _ => none) h 5 (f (sp.toNatClampNeg + i))) = true) ∧ h' = st_ h a (qA_ 5 n1 (va_cpy f g sp.toNatClampNeg dp.toNatClampNeg n.toNatClampNeg)) := by
  unfold cpQ_ at e
  split at e
  · next a0 a =>
    split at e
    · next t0 n0 f t1 n1 g e0 e1 =>
      split at e
      · next hc =>
        cases e
        obtain ⟨rfl, rfl, hc⟩ := hc
        exact ⟨a0, a, n0, n1, f, g, rfl, rfl, e0, e1, hc, rfl⟩
      · cases e
    · cases e
  · cases e
/-- clone of an own array of a small type -/
def clA_ (k : kc_T) (h : hp_T) (r : Option Nat) (t : Nat) : Option (Option Nat × hp_T) := match r with
  | none => none
  | some a => match h.1 a with
    | some (.inl (t', n, .inl f)) => if t' = t ∧ (h_sz h + 1 ≤ k_lc k ∧ h_sl h + n ≤ k_ls k) ∧ (List.range n).all (fun i => fitA_ t (f i)) = true then some (some (h_sz h), mk_ h (.inl (t, n, .inl f)) n) else none
    | _ => none
theorem clA_some {k : kc_T} {h : hp_T} {r : Option Nat} {t : Nat} {x : Option Nat × hp_T} (e : clA_ k h r t = some x) : ∃ a n f, r = some a ∧ h.1 a = some (.inl (t, n, .inl f)) ∧ (h_sz h + 1 ≤ k_lc k ∧ h_sl h + n ≤ k_ls k) ∧ (List.range n).all (fun i => fitA_ t (f i)) = true ∧ x = (some (h_sz h), mk_ h (.inl (t, n, .inl f)) n) := by
  cases r with
  | none => cases e
  | some a =>
    simp only [clA_] at e
    split at e
    · next t' n f ho =>
      split at e
      · next hc =>
        cases e
        obtain ⟨rfl, h1, h2⟩ := hc
        exact ⟨a, n, f, rfl, ho, h1, h2, rfl⟩
      · cases e
    · cases e
theorem nn_ {z : Int32} (hz : ¬ z < 0) : z.toInt = (z.toNatClampNeg : Int) := by
  have hz0 : (0 : Int) ≤ z.toInt := by
    have := Int32.not_lt.mp hz
    simpa using Int32.le_iff_toInt_le.mp this
  show z.toInt = ((z.toInt.toNat : Nat) : Int)
  omega
section RY
variable {p : Program} {l : Launch} {e : Env} {R : Room} {s : State} {m : MethodId} {args : Array Value} {below : List Frame} {meth : Method} {c : Code} {H : Heap} {locs : List Loc} {cells slots : Nat} {Q : State → Prop}
variable {cc : ByteArray} {nL : Nat} {ret : Option FieldType} {own : String} {k : kc_T} {G : gx_T} {h0 h h' : hp_T} {fr lo : Nat} {pc : Nat} {ls : Array Slot} {rest : List Value}
/-- a nest mate's field -/
theorem r_getIn (C : cx_ p l R s m args meth c cc nL ret own k G h0 fr lo) (N : nw_ k G s h0 h H locs) {a ci j : Nat} {v : Int32} (hv : gI_ h (some a) [ci] j = some v) {ref Cn host : String} {T : u_T} {Nf index : Nat} (hin : ∀ w ∈ u_ws Cn T Nf, w ∈ lw_all) (hc : cl_A[ci]? = some (Cn, T, Nf)) (hj : j < Nf)
    (hlink : Cond.fieldLinkNest own index ref (T j).2.1 (T j).2.2.1 host ∈ nw_L) (hsame : (T j).1 = ref) (hdg : decode cc pc = .ok (.getfield index, 3))
    (kk : W p l e R s m args below meth c H locs cells slots Q (F0 m (pc + 3) ls (.int v :: rest))) : W p l e R s m args below meth c H locs cells slots Q (F0 m pc ls (.ref a :: rest)) := by
  obtain ⟨hx, hb, -, -, -, hown, hts, K, -⟩ := C
  obtain ⟨a', o, ha, ho, hci, hf⟩ := gI_some hv
  cases ha
  have hci : o.1 = ci := by simpa using hci
  subst hci
  exact va_getN hx hb hts hin hown K.1 (hp_at N.1 ho) 0 rfl hc j hj (va_Nw.use rfl (K.2.2.2.1.2.1.1 _ hlink)) (fun x h9 => by rw [← hsame]; exact h9) hf hdg kk
theorem r_getRn (C : cx_ p l R s m args meth c cc nL ret own k G h0 fr lo) (N : nw_ k G s h0 h H locs) {a ci j : Nat} {v : Option Nat} (hv : gR_ h (some a) [ci] j = some v) {ref Cn host : String} {T : u_T} {Nf index : Nat} (hin : ∀ w ∈ u_ws Cn T Nf, w ∈ lw_all) (hc : cl_A[ci]? = some (Cn, T, Nf)) (hj : j < Nf)
    (hlink : Cond.fieldLinkNest own index ref (T j).2.1 (T j).2.2.1 host ∈ nw_L) (hsame : (T j).1 = ref) (hdg : decode cc pc = .ok (.getfield index, 3))
    (kk : W p l e R s m args below meth c H locs cells slots Q (F0 m (pc + 3) ls (va_rf v :: rest))) : W p l e R s m args below meth c H locs cells slots Q (F0 m pc ls (.ref a :: rest)) := by
  obtain ⟨hx, hb, -, -, -, hown, hts, K, -⟩ := C
  obtain ⟨a', o, ha, ho, hci, hf⟩ := gR_some hv
  cases ha
  have hci : o.1 = ci := by simpa using hci
  subst hci
  exact va_getN hx hb hts hin hown K.1 (hp_at N.1 ho) 0 rfl hc j hj (va_Nw.use rfl (K.2.2.2.1.2.1.1 _ hlink)) (fun x h9 => by rw [← hsame]; exact h9) hf hdg kk
/-- statics -/
theorem r_getsI (i : Nat) (C : cx_ p l R s m args meth c cc nL ret own k G h0 fr lo) (N : nw_ k G s h0 h H locs) {v : Int32} (hv : sI_ k i = some v) {cn n d : String} {index : Nat} (hi : st_L[i]? = some (cn, n, d)) (hlink : Cond.fieldLink own index cn n d ∈ lw_all) (hdg : decode cc pc = .ok (.getstatic index, 3))
    (kk : W p l e R s m args below meth c H locs cells slots Q (F0 m (pc + 3) ls (.int v :: rest))) : W p l e R s m args below meth c H locs cells slots Q (F0 m pc ls rest) := by
  obtain ⟨hx, hb, -, -, -, hown, hts, K, -⟩ := C
  have hZ := K.2.1 i _ hi
  rw [sI_some hv] at hZ
  exact va_gets hx hb hZ N.2.1 hown (hts _ hlink) (fun x h9 => h9) hdg kk
theorem r_getsR (i : Nat) (C : cx_ p l R s m args meth c cc nL ret own k G h0 fr lo) (N : nw_ k G s h0 h H locs) {v : Option Nat} (hv : sR_ k i = some v) {cn n d : String} {index : Nat} (hi : st_L[i]? = some (cn, n, d)) (hlink : Cond.fieldLink own index cn n d ∈ lw_all) (hdg : decode cc pc = .ok (.getstatic index, 3))
    (kk : W p l e R s m args below meth c H locs cells slots Q (F0 m (pc + 3) ls (va_rf v :: rest))) : W p l e R s m args below meth c H locs cells slots Q (F0 m pc ls rest) := by
  obtain ⟨hx, hb, -, -, -, hown, hts, K, -⟩ := C
  have hZ := K.2.1 i _ hi
  rw [sR_some hv] at hZ
  exact va_gets hx hb hZ N.2.1 hown (hts _ hlink) (fun x h9 => h9) hdg kk
theorem r_getsRn (i : Nat) (C : cx_ p l R s m args meth c cc nL ret own k G h0 fr lo) (N : nw_ k G s h0 h H locs) {v : Option Nat} (hv : sR_ k i = some v) {cn n d host : String} {index : Nat} (hi : st_L[i]? = some (cn, n, d)) (hlink : Cond.fieldLinkNest own index cn n d host ∈ nw_L) (hdg : decode cc pc = .ok (.getstatic index, 3))
    (kk : W p l e R s m args below meth c H locs cells slots Q (F0 m (pc + 3) ls (va_rf v :: rest))) : W p l e R s m args below meth c H locs cells slots Q (F0 m pc ls rest) := by
  obtain ⟨hx, hb, -, -, -, hown, hts, K, -⟩ := C
  have hZ := K.2.1 i _ hi
  rw [sR_some hv] at hZ
  exact va_getsN hx hb hZ N.2.1 hown (va_Nw.use rfl (K.2.2.2.1.2.1.1 _ hlink)) (fun x h9 => h9) hdg kk
/-- a String constant -/
theorem r_ldcS (i : Nat) (C : cx_ p l R s m args meth c cc nL ret own k G h0 fr lo) {a index : Nat} (hv : sR_ k (100 + i) = some (some a)) {tx : String} (hi : sr_L[i]? = some (own, index, tx)) (hdg : decode cc pc = .ok (.ldc index, 2))
    (kk : W p l e R s m args below meth c H locs cells slots Q (F0 m (pc + 2) ls (.ref a :: rest))) : W p l e R s m args below meth c H locs cells slots Q (F0 m pc ls rest) := by
  obtain ⟨hx, hb, -, -, -, hown, hts, K, -⟩ := C
  obtain ⟨b, e1, e2⟩ := K.2.2.2.1.2.2 i _ hi
  rw [sR_some hv] at e1
  cases e1
  exact va_ldcS hx hb hown e2 hdg kk
/-- casts and tests of an object of a known class -/
theorem r_castY (C : cx_ p l R s m args meth c cc nL ret own k G h0 fr lo) (N : nw_ k G s h0 h H locs) {a ci index : Nat} (hcl : cls_ k h (some a) = some ci) {nm : String} (hcas : cas_ s (cn_ ci) nm ∨ cn_ ci = nm) (hlink : Cond.classLink own index nm ∈ lw_all) (hdg : decode cc pc = .ok (.checkcast index, 3))
    (kk : W p l e R s m args below meth c H locs cells slots Q (F0 m (pc + 3) ls (.ref a :: rest))) : W p l e R s m args below meth c H locs cells slots Q (F0 m pc ls (.ref a :: rest)) := by
  obtain ⟨hx, hb, -, -, -, hown, hts, K, -⟩ := C
  obtain ⟨cell, h1, h2, h3⟩ := recv_ N K hcl
  intro T hT X
  have hf : ∃ t, s.vm.findClass nm = some t ∧ s.vm.assignable cell.cls t = true := by
    rcases hcas with ⟨c0, t0, f1, f2, f3⟩ | e
    · cases h3.symm.trans f1
      exact ⟨t0, f2, f3⟩
    · exact ⟨cell.cls, by rw [← e]; exact h3, ass_self _ _⟩
  obtain ⟨t0, f2, f3⟩ := hf
  obtain ⟨vm', X', st⟩ := X.checkcastYes hx hown (hts _ hlink) (by rw [hT]; exact h1) h2 f2 f3 (g := F0 m pc ls (.ref a :: rest)) rfl rfl (by rw [hb]; exact hdg)
  obtain ⟨t, a1, b1⟩ := kk (T.setVm vm') hT X'
  exact ⟨t, st t a1, b1⟩
theorem r_instY (C : cx_ p l R s m args meth c cc nL ret own k G h0 fr lo) (N : nw_ k G s h0 h H locs) {a ci index : Nat} (hcl : cls_ k h (some a) = some ci) {nm : String} (hcas : cas_ s (cn_ ci) nm ∨ cn_ ci = nm) (hlink : Cond.classLink own index nm ∈ lw_all) (hdg : decode cc pc = .ok (.instanceof index, 3))
    (kk : W p l e R s m args below meth c H locs cells slots Q (F0 m (pc + 3) ls (.int 1 :: rest))) : W p l e R s m args below meth c H locs cells slots Q (F0 m pc ls (.ref a :: rest)) := by
  obtain ⟨hx, hb, -, -, -, hown, hts, K, -⟩ := C
  obtain ⟨cell, h1, h2, h3⟩ := recv_ N K hcl
  intro T hT X
  have hf : ∃ t, s.vm.findClass nm = some t ∧ s.vm.assignable cell.cls t = true := by
    rcases hcas with ⟨c0, t0, f1, f2, f3⟩ | e
    · cases h3.symm.trans f1
      exact ⟨t0, f2, f3⟩
    · exact ⟨cell.cls, by rw [← e]; exact h3, ass_self _ _⟩
  obtain ⟨t0, f2, f3⟩ := hf
  obtain ⟨vm', X', st⟩ := X.instanceofYes hx hown (hts _ hlink) (by rw [hT]; exact h1) h2 f2 f3 (g := F0 m pc ls (.ref a :: rest)) rfl rfl (by rw [hb]; exact hdg)
  obtain ⟨t, a1, b1⟩ := kk (T.setVm vm') hT X'
  exact ⟨t, st t a1, b1⟩
theorem r_instNo (C : cx_ p l R s m args meth c cc nL ret own k G h0 fr lo) (N : nw_ k G s h0 h H locs) {a ci index : Nat} (hcl : cls_ k h (some a) = some ci) {nm : String} (hnc : (cn_ ci, nm) ∈ nc_L) (hlink : Cond.classLink own index nm ∈ lw_all) (hdg : decode cc pc = .ok (.instanceof index, 3))
    (kk : W p l e R s m args below meth c H locs cells slots Q (F0 m (pc + 3) ls (.int 0 :: rest))) : W p l e R s m args below meth c H locs cells slots Q (F0 m pc ls (.ref a :: rest)) := by
  obtain ⟨hx, hb, -, -, -, hown, hts, K, -⟩ := C
  exact va_instNo hx hb hown (hts _ hlink) (K.2.2.2.1.2.1.2.2.2.1 _ hnc) (recv_ N K hcl) hdg kk
/-- a new array of references to objects; to arrays of ints -/
theorem r_anew (t : Nat) {Cn : String} (C : cx_ p l R s m args meth c cc nL ret own k G h0 fr lo) (N : nw_ k G s h0 h H locs) {n : Int32} {a index : Nat} (hv : nQ_ k h t n = some (a, h')) (ht : (tg_ G)[t]? = some (G.2.1 t, .object Cn)) (hover : va_AO Cn s) (q : Cond.classLink own index Cn ∈ lw_all) (hdg : decode cc pc = .ok (.anewarray index, 3))
    (kk : ∀ H1, nw_ k G s h0 h' H1 locs → W p l e R s m args below meth c H1 locs (h_sz h' - h_sz h0) (h_sl h' - h_sl h0) Q (F0 m (pc + 3) ls (.ref a :: rest))) : W p l e R s m args below meth c H locs (h_sz h - h_sz h0) (h_sl h - h_sl h0) Q (F0 m pc ls (.int n :: rest)) := by
  obtain ⟨hn, hbig, hlim, e1⟩ := nQ_some hv
  cases e1
  obtain ⟨⟨hc1, hs1⟩, ec, es⟩ := lim_ C N hlim
  obtain ⟨hx, hb, -, -, -, hown, hts, K, -⟩ := C
  refine W.anew (g := F0 m pc ls (.int n :: rest)) hx hb hown (hts _ q) (va_AO.use hover) rfl hdg rfl hn (by omega) hc1 hs1 fun cA kA comp f1 f2 f3 f4 => ?_
  obtain ⟨kA', comp', g1, g2, g3, g4⟩ := (K.1.2 t _ ht).2
  have hcA : cA = G.2.1 t := Option.some.inj (f1.symm.trans g4)
  subst hcA
  generalize hH1 : H.push ({ cls := G.2.1 t, slots := Array.replicate n.toNatClampNeg .null, vm := .none } : Cell) = H1
  have z1 : H1.size = H.size + 1 := by rw [← hH1, Array.size_push]
  have e1 : H1[H.size]? = some (arrV (G.2.1 t) n.toNatClampNeg (fun _ => .null)) := by rw [← hH1, Array.getElem?_push_size, ← arrV_new]
  have o1 : ∀ q : Nat, q < H.size → H1[q]? = H[q]? := fun q hq => by rw [← hH1, Array.getElem?_push, if_neg (Nat.ne_of_lt hq)]
  rw [ec, es]
  have hk := kk H1 ⟨hp_push N.1 hlim z1 o1 (by show H1[h_sz h]? = some (arrV (G.2.1 t) n.toNatClampNeg (fun j => va_rf none)); rw [N.1.1]; exact e1), va_S_push N.2.1 z1 o1, Nat.le_trans N.2.2 (Nat.le_add_right _ _)⟩
  rw [N.1.1] at hk
  exact hk
theorem r_anewA (C : cx_ p l R s m args meth c cc nL ret own k G h0 fr lo) (N : nw_ k G s h0 h H locs) {n : Int32} {a index : Nat} (hv : nQ_ k h 4 n = some (a, h')) (q : Cond.classLink own index "[I" ∈ lw_all) (hdg : decode cc pc = .ok (.anewarray index, 3))
    (kk : ∀ H1, nw_ k G s h0 h' H1 locs → W p l e R s m args below meth c H1 locs (h_sz h' - h_sz h0) (h_sl h' - h_sl h0) Q (F0 m (pc + 3) ls (.ref a :: rest))) : W p l e R s m args below meth c H locs (h_sz h - h_sz h0) (h_sl h - h_sl h0) Q (F0 m pc ls (.int n :: rest)) := by
  obtain ⟨hn, hbig, hlim, e1⟩ := nQ_some hv
  cases e1
  obtain ⟨⟨hc1, hs1⟩, ec, es⟩ := lim_ C N hlim
  obtain ⟨hx, hb, -, -, -, hown, hts, K, -⟩ := C
  refine W.anewA (t := .int) (g := F0 m pc ls (.int n :: rest)) hx hb hown (hts _ q) K.2.2.2.1.2.1.2.1.2.2 rfl hdg rfl hn (by omega) hc1 hs1 fun cA kA comp f1 f2 f3 f4 => ?_
  have g4 : s.vm.findClass ("[" ++ (FieldType.array .int).toString) = some (G.2.1 4) := (K.1.2 4 _ rfl).2
  have hcA : cA = G.2.1 4 := Option.some.inj (f1.symm.trans g4)
  subst hcA
  generalize hH1 : H.push ({ cls := G.2.1 4, slots := Array.replicate n.toNatClampNeg .null, vm := .none } : Cell) = H1
  have z1 : H1.size = H.size + 1 := by rw [← hH1, Array.size_push]
  have e1 : H1[H.size]? = some (arrV (G.2.1 4) n.toNatClampNeg (fun _ => .null)) := by rw [← hH1, Array.getElem?_push_size, ← arrV_new]
  have o1 : ∀ q : Nat, q < H.size → H1[q]? = H[q]? := fun q hq => by rw [← hH1, Array.getElem?_push, if_neg (Nat.ne_of_lt hq)]
  rw [ec, es]
  have hk := kk H1 ⟨hp_push N.1 hlim z1 o1 (by show H1[h_sz h]? = some (arrV (G.2.1 4) n.toNatClampNeg (fun j => va_rf none)); rw [N.1.1]; exact e1), va_S_push N.2.1 z1 o1, Nat.le_trans N.2.2 (Nat.le_add_right _ _)⟩
  rw [N.1.1] at hk
  exact hk
end RY
