set_option maxRecDepth 100000
/-! reading and writing the abstract heap -/
def gV_ (h : hp_T) (r : Option Nat) (cs : List Nat) (j : Nat) : Option Value := match r with
  | none => none
  | some a => match h.1 a with
    | some (.inr o) => if o.1 ∈ cs then o.2[j]? else none
    | _ => none
def vI_ (v : Value) : Option Int32 := match v with
  | .int x => some x
  | _ => none
def vR_ (v : Value) : Option (Option Nat) := match v with
  | .ref a => some (some a)
  | .null => some none
  | _ => none
/-- an int field, a reference's field -/
def gI_ (h : hp_T) (r : Option Nat) (cs : List Nat) (j : Nat) : Option Int32 := (gV_ h r cs j).bind vI_
def gR_ (h : hp_T) (r : Option Nat) (cs : List Nat) (j : Nat) : Option (Option Nat) := (gV_ h r cs j).bind vR_
def pV_ (h : hp_T) (r : Option Nat) (cs : List Nat) (j : Nat) (v : Value) : Option hp_T := match r with
  | none => none
  | some a => match h.1 a with
    | some (.inr o) => if o.1 ∈ cs ∧ j < o.2.length then some (st_ h a (.inr (o.1, o.2.set j v))) else none
    | _ => none
/-- an array of ints (tag 0), bytes (1), booleans (2) -/
def gA_ (h : hp_T) (r : Option Nat) (t : Nat) (i : Int32) : Option Int32 := match r with
  | none => none
  | some a => match h.1 a with
    | some (.inl (t', n, .inl f)) => if t' = t ∧ ¬ (i < 0 ∨ n ≤ i.toNatClampNeg) then some (f i.toNatClampNeg) else none
    | _ => none
def nar_ (t : Nat) (x : Int32) : Int32 := match t with
  | 0 => x
  | 1 => vp_nar .byte x
  | _ => vp_nar .boolean x
def pA_ (h : hp_T) (r : Option Nat) (t : Nat) (i x : Int32) : Option hp_T := match r with
  | none => none
  | some a => match h.1 a with
    | some (.inl (t', n, .inl f)) => if t' = t ∧ ¬ (i < 0 ∨ n ≤ i.toNatClampNeg) then some (st_ h a (.inl (t, n, .inl (upd f i.toNatClampNeg (nar_ t x))))) else none
    | _ => none
/-- a new array of ints, bytes, booleans -/
def nA_ (k : kc_T) (h : hp_T) (t : Nat) (n : Int32) : Option (Nat × hp_T) :=
  if ¬ n < 0 ∧ n.toNatClampNeg ≤ 1000000 ∧ h_sz h + 1 ≤ k_lc k ∧ h_sl h + n.toNatClampNeg ≤ k_ls k then some (h_sz h, mk_ h (.inl (t, n.toNatClampNeg, .inl (fun _ => 0))) n.toNatClampNeg) else none
/-- a new object -/
def nO_ (k : kc_T) (h : hp_T) (ci : Nat) (fs : List Value) (n : Nat) : Option (Nat × hp_T) :=
  if h_sz h + 1 ≤ k_lc k ∧ h_sl h + n ≤ k_ls k then some (h_sz h, mk_ h (.inr (ci, fs)) n) else none
/-- an object's class number -/
def cls_ (k : kc_T) (h : hp_T) (r : Option Nat) : Option Nat := match r with
  | none => none
  | some a => match (h.1 a).or (k_ro k a) with
    | some (.inr o) => some o.1
    | _ => none
theorem gV_some {h : hp_T} {a : Nat} {cs : List Nat} {j : Nat} {v : Value} (e : gV_ h (some a) cs j = some v) : ∃ o, h.1 a = some (.inr o) ∧ o.1 ∈ cs ∧ o.2[j]? = some v := by
  simp only [gV_] at e
  split at e
  · next o ho =>
    by_cases hc : o.1 ∈ cs
    · rw [if_pos hc] at e
      exact ⟨o, ho, hc, e⟩
    · rw [if_neg hc] at e
      cases e
  · cases e
theorem gI_some {h : hp_T} {r : Option Nat} {cs : List Nat} {j : Nat} {v : Int32} (e : gI_ h r cs j = some v) : ∃ a o, r = some a ∧ h.1 a = some (.inr o) ∧ o.1 ∈ cs ∧ o.2[j]? = some (.int v) := by
  cases r with
  | none => cases e
  | some a =>
    simp only [gI_, Option.bind_eq_some_iff] at e
    obtain ⟨w, hw, e⟩ := e
    obtain ⟨o, h1, h2, h3⟩ := gV_some hw
    cases w <;> simp only [vI_] at e <;> cases e
    exact ⟨a, o, rfl, h1, h2, h3⟩
theorem gR_some {h : hp_T} {r : Option Nat} {cs : List Nat} {j : Nat} {v : Option Nat} (e : gR_ h r cs j = some v) : ∃ a o, r = some a ∧ h.1 a = some (.inr o) ∧ o.1 ∈ cs ∧ o.2[j]? = some (va_rf v) := by
  cases r with
  | none => cases e
  | some a =>
    simp only [gR_, Option.bind_eq_some_iff] at e
    obtain ⟨w, hw, e⟩ := e
    obtain ⟨o, h1, h2, h3⟩ := gV_some hw
    cases w <;> simp only [vR_] at e <;> cases e
    · exact ⟨a, o, rfl, h1, h2, h3⟩
    · exact ⟨a, o, rfl, h1, h2, h3⟩
theorem pV_some {h h' : hp_T} {r : Option Nat} {cs : List Nat} {j : Nat} {v : Value} (e : pV_ h r cs j v = some h') : ∃ a o, r = some a ∧ h.1 a = some (.inr o) ∧ o.1 ∈ cs ∧ j < o.2.length ∧ h' = st_ h a (.inr (o.1, o.2.set j v)) := by
  cases r with
  | none => cases e
  | some a =>
    simp only [pV_] at e
    split at e
    · next o ho =>
      by_cases hc : o.1 ∈ cs ∧ j < o.2.length
      · rw [if_pos hc] at e
        cases e
        exact ⟨a, o, rfl, ho, hc.1, hc.2, rfl⟩
      · rw [if_neg hc] at e
        cases e
    · cases e
theorem gA_some {h : hp_T} {r : Option Nat} {t : Nat} {i v : Int32} (e : gA_ h r t i = some v) : ∃ a n f, r = some a ∧ h.1 a = some (.inl (t, n, .inl f)) ∧ vp_in i n ∧ v = f i.toNatClampNeg := by
  cases r with
  | none => cases e
  | some a =>
    simp only [gA_] at e
    split at e
    · next t' n f ho =>
      by_cases hc : t' = t ∧ ¬ (i < 0 ∨ n ≤ i.toNatClampNeg)
      · rw [if_pos hc] at e
        cases e
        obtain ⟨rfl, hc⟩ := hc
        exact ⟨a, n, f, rfl, ho, hc, rfl⟩
      · rw [if_neg hc] at e
        cases e
    · cases e
theorem pA_some {h h' : hp_T} {r : Option Nat} {t : Nat} {i x : Int32} (e : pA_ h r t i x = some h') : ∃ a n f, r = some a ∧ h.1 a = some (.inl (t, n, .inl f)) ∧ vp_in i n ∧ h' = st_ h a (.inl (t, n, .inl (upd f i.toNatClampNeg (nar_ t x)))) := by
  cases r with
  | none => cases e
  | some a =>
    simp only [pA_] at e
    split at e
    · next t' n f ho =>
      by_cases hc : t' = t ∧ ¬ (i < 0 ∨ n ≤ i.toNatClampNeg)
      · rw [if_pos hc] at e
        cases e
        obtain ⟨rfl, hc⟩ := hc
        exact ⟨a, n, f, rfl, ho, hc, rfl⟩
      · rw [if_neg hc] at e
        cases e
    · cases e
/-- the machine's side of a method's run: what is fixed from its start on -/
def cx_ (p : Program) (l : Launch) (R : Room) (s : State) (m : MethodId) (args : Array Value) (meth : Method) (c : Code) (cc : ByteArray) (nL : Nat) (ret : Option FieldType) (own : String) (k : kc_T) (G : gx_T) (h0 : hp_T) (fr lo : Nat) : Prop :=
  p.tables.exec = Jvm.exec ∧ c.code = cc ∧ c.maxLocals = nL ∧ meth.sig.returnType = ret ∧ meth.locks = false ∧ s.vm.findClass own = some m.cls ∧ (∀ w ∈ lw_all, w.before args s = true) ∧ KK_ k G s s.heap ∧ h_sz h0 = s.heap.size ∧
  R = { frames := fr, cells := k_lc k - h_sz h0, slots := k_ls k - h_sl h0, locals := lo }
section RW
variable {p : Program} {l : Launch} {e : Env} {R : Room} {s : State} {m : MethodId} {args : Array Value} {below : List Frame} {meth : Method} {c : Code} {H : Heap} {locs : List Loc} {cells slots : Nat} {Q : State → Prop}
variable {cc : ByteArray} {nL : Nat} {ret : Option FieldType} {own : String} {k : kc_T} {G : gx_T} {h0 h : hp_T} {fr lo : Nat} {pc : Nat} {ls : Array Slot} {rest : List Value}
theorem r_getI (C : cx_ p l R s m args meth c cc nL ret own k G h0 fr lo) (N : nw_ k G s h0 h H locs) {a ci j : Nat} {v : Int32} (hv : gI_ h (some a) [ci] j = some v) {ref Cn : String} {T : u_T} {Nf index : Nat} (hin : ∀ w ∈ u_ws Cn T Nf, w ∈ lw_all) (hc : cl_A[ci]? = some (Cn, T, Nf)) (hj : j < Nf)
    (hlink : Cond.fieldLink own index ref (T j).2.1 (T j).2.2.1 ∈ lw_all) (hsame : (T j).1 = ref) (hdg : decode cc pc = .ok (.getfield index, 3))
    (kk : W p l e R s m args below meth c H locs cells slots Q (F0 m (pc + 3) ls (.int v :: rest))) : W p l e R s m args below meth c H locs cells slots Q (F0 m pc ls (.ref a :: rest)) := by
  obtain ⟨hx, hb, -, -, -, hown, hts, K, -⟩ := C
  obtain ⟨a', o, ha, ho, hci, hf⟩ := gI_some hv
  cases ha
  have hci : o.1 = ci := by simpa using hci
  subst hci
  exact va_get hx hb hts hin hown K.1 (hp_at N.1 ho) 0 rfl hc j hj (hts _ hlink) (fun x h9 => by rw [← hsame]; exact h9) hf hdg kk
theorem r_getR (C : cx_ p l R s m args meth c cc nL ret own k G h0 fr lo) (N : nw_ k G s h0 h H locs) {a ci j : Nat} {v : Option Nat} (hv : gR_ h (some a) [ci] j = some v) {ref Cn : String} {T : u_T} {Nf index : Nat} (hin : ∀ w ∈ u_ws Cn T Nf, w ∈ lw_all) (hc : cl_A[ci]? = some (Cn, T, Nf)) (hj : j < Nf)
    (hlink : Cond.fieldLink own index ref (T j).2.1 (T j).2.2.1 ∈ lw_all) (hsame : (T j).1 = ref) (hdg : decode cc pc = .ok (.getfield index, 3))
    (kk : W p l e R s m args below meth c H locs cells slots Q (F0 m (pc + 3) ls (va_rf v :: rest))) : W p l e R s m args below meth c H locs cells slots Q (F0 m pc ls (.ref a :: rest)) := by
  obtain ⟨hx, hb, -, -, -, hown, hts, K, -⟩ := C
  obtain ⟨a', o, ha, ho, hci, hf⟩ := gR_some hv
  cases ha
  have hci : o.1 = ci := by simpa using hci
  subst hci
  exact va_get hx hb hts hin hown K.1 (hp_at N.1 ho) 0 rfl hc j hj (hts _ hlink) (fun x h9 => by rw [← hsame]; exact h9) hf hdg kk
/-- putfield of a field that isn't final -/
theorem r_put (C : cx_ p l R s m args meth c cc nL ret own k G h0 fr lo) (N : nw_ k G s h0 h H locs) {a ci j : Nat} {v : Value} {h' : hp_T} (hv : pV_ h (some a) [ci] j v = some h') {ref Cn : String} {T : u_T} {Nf index : Nat} (hin : ∀ w ∈ u_ws Cn T Nf, w ∈ lw_all) (ty0 : Nat → FieldType) (hty : ∀ k, k < Nf → parseFieldDescriptor (T k).2.2.1 = some (ty0 k)) (hnm : ∀ a, a < Nf → ∀ b, b < Nf → a ≠ b → (T a).2.1 ≠ (T b).2.1) (hc : cl_A[ci]? = some (Cn, T, Nf)) (hj : j < Nf)
    (hlink : Cond.fieldLink own index ref (T j).2.1 (T j).2.2.1 ∈ lw_all) (hsame : (T j).1 = ref) (hfin : (T j).2.2.2 = false) (hn : narrow (ty0 j) v = v) (hfit : fits (ty0 j) v = true) (hdg : decode cc pc = .ok (.putfield index, 3))
    (kk : ∀ (H1 : Heap) (locs1 : List Loc), nw_ k G s h0 h' H1 locs1 → W p l e R s m args below meth c H1 locs1 (h_sz h' - h_sz h0) (h_sl h' - h_sl h0) Q (F0 m (pc + 3) ls rest)) : W p l e R s m args below meth c H locs (h_sz h - h_sz h0) (h_sl h - h_sl h0) Q (F0 m pc ls (v :: .ref a :: rest)) := by
  obtain ⟨hx, hb, -, -, -, hown, hts, K, -⟩ := C
  obtain ⟨a', o, ha, ho, hci, hl, rfl⟩ := pV_some hv
  cases ha
  have hci : o.1 = ci := by simpa using hci
  subst hci
  obtain ⟨ci, fs⟩ := o
  have hap := va_apart (own := own) hts hin ty0 hty hnm K.1 hc
  obtain ⟨hba, r, hr1, cell, q1, q2, q3, q4⟩ := N.1.2.2 a _ ho
  have hr : r = (Cn, T, Nf) := Option.some.inj (hr1.symm.trans hc)
  subst hr
  obtain ⟨hS, hfc, kC, hkC, hkind⟩ := K.1.1 ci _ hc
  obtain ⟨cf, kf, fi, f, hi, hsl⟩ := hS j hj
  have hlay := hts _ (hin _ (u_in_lay hj))
  unfold u_lay at hlay
  rw [if_neg (by rw [hfin]; decide)] at hlay
  have hst := (u_facts hfc hkC (u_lays hts hin hj) hi).1
  have h6 := u_store hfc hkC hkind hlay hi (hty j hj) hn hfit
  refine W.putK hx hb (f := f) ⟨hown, hts _ hlink, ⟨_, _, _, by rw [← hsame]; exact hi⟩, hst⟩ (by rw [q2]; exact h6) q1 q3 (by rw [hsl]; exact k2_hasslot (q4 j hj)) rfl rfl hdg fun H1 e1 e2 e3 => ?_
  rw [hsl] at e1 ⊢
  exact kk H1 _ ⟨hp_set N.1 hba e2 e3 ⟨_, hc, t_OB.to (V := updV (vp_V fs) j v) ⟨_, e1, q2, q3, t_set q4 hap hj v⟩ (fun i _ => vp_updV_set hl v i)⟩, N.2.1.put e2 e3 hba, N.2.2⟩
/-- putfield of a final field, in its class's constructor -/
theorem r_putF (C : cx_ p l R s m args meth c cc nL ret own k G h0 fr lo) (N : nw_ k G s h0 h H locs) {a ci j : Nat} {v : Value} {h' : hp_T} (hv : pV_ h (some a) [ci] j v = some h') {ref Cn : String} {T : u_T} {Nf index : Nat} (hin : ∀ w ∈ u_ws Cn T Nf, w ∈ lw_all) (ty0 : Nat → FieldType) (hty : ∀ k, k < Nf → parseFieldDescriptor (T k).2.2.1 = some (ty0 k)) (hnm : ∀ a, a < Nf → ∀ b, b < Nf → a ≠ b → (T a).2.1 ≠ (T b).2.1) (hc : cl_A[ci]? = some (Cn, T, Nf)) (hj : j < Nf)
    (hlink : Cond.fieldLink own index ref (T j).2.1 (T j).2.2.1 ∈ lw_all) (hsame : (T j).1 = ref) (hfin : (T j).2.2.2 = true) (hin2 : meth.name = "<init>") (hdecl : (T j).1 = own) (hn : narrow (ty0 j) v = v) (hfit : fits (ty0 j) v = true) (hdg : decode cc pc = .ok (.putfield index, 3))
    (kk : ∀ (H1 : Heap) (locs1 : List Loc), nw_ k G s h0 h' H1 locs1 → W p l e R s m args below meth c H1 locs1 (h_sz h' - h_sz h0) (h_sl h' - h_sl h0) Q (F0 m (pc + 3) ls rest)) : W p l e R s m args below meth c H locs (h_sz h - h_sz h0) (h_sl h - h_sl h0) Q (F0 m pc ls (v :: .ref a :: rest)) := by
  obtain ⟨hx, hb, -, -, -, hown, hts, K, -⟩ := C
  obtain ⟨a', o, ha, ho, hci, hl, rfl⟩ := pV_some hv
  cases ha
  have hci : o.1 = ci := by simpa using hci
  subst hci
  obtain ⟨ci, fs⟩ := o
  have hap := va_apart (own := own) hts hin ty0 hty hnm K.1 hc
  obtain ⟨hba, r, hr1, cell, q1, q2, q3, q4⟩ := N.1.2.2 a _ ho
  have hr : r = (Cn, T, Nf) := Option.some.inj (hr1.symm.trans hc)
  subst hr
  obtain ⟨hS, hfc, kC, hkC, hkind⟩ := K.1.1 ci _ hc
  obtain ⟨cf, kf, fi, f, hi, hsl⟩ := hS j hj
  have hlay := hts _ (hin _ (u_in_lay hj))
  unfold u_lay at hlay
  rw [if_pos hfin] at hlay
  have hst := (u_facts hfc hkC (u_lays hts hin hj) hi).1
  have hcf : m.cls = cf := by
    obtain ⟨_, _, c', _, _, _, -, -, hf', -, -, -, hown2, -⟩ := Cond.laysFinal_spec hlay
    have e1 : c' = cf := by have := hi.symm.trans hf'; simp at this; exact this.1.symm
    rw [hdecl] at hown2
    rw [← e1]; exact Option.some.inj (hown.symm.trans hown2)
  have h6 := u_fits hfc hkC hkind (Or.inr hlay) hi (hty j hj) hn hfit
  refine W.putFinK hx hb hown (hts _ hlink) (by rw [← hsame]; exact hi) hst hcf hin2 (by rw [q2]; exact h6) q1 q3 (by rw [hsl]; exact k2_hasslot (q4 j hj)) rfl rfl hdg fun H1 e1 e2 e3 => ?_
  rw [hsl] at e1 ⊢
  exact kk H1 _ ⟨hp_set N.1 hba e2 e3 ⟨_, hc, t_OB.to (V := updV (vp_V fs) j v) ⟨_, e1, q2, q3, t_set q4 hap hj v⟩ (fun i _ => vp_updV_set hl v i)⟩, N.2.1.put e2 e3 hba, N.2.2⟩
theorem r_iald (C : cx_ p l R s m args meth c cc nL ret own k G h0 fr lo) (N : nw_ k G s h0 h H locs) {a : Nat} {i v : Int32} (hv : gA_ h (some a) 0 i = some v) (hdg : decode cc pc = .ok (.iaload, 1))
    (kk : W p l e R s m args below meth c H locs cells slots Q (F0 m (pc + 1) ls (.int v :: rest))) : W p l e R s m args below meth c H locs cells slots Q (F0 m pc ls (.int i :: .ref a :: rest)) := by
  obtain ⟨hx, hb, -, -, -, hown, hts, K, -⟩ := C
  obtain ⟨a', n, f, ha, ho, hi, rfl⟩ := gA_some hv
  cases ha
  exact va_iald hx hb K.1 (hp_at N.1 ho) 0 0 rfl rfl hi hdg kk
theorem r_bald (C : cx_ p l R s m args meth c cc nL ret own k G h0 fr lo) (N : nw_ k G s h0 h H locs) {a : Nat} {i v : Int32} (hv : gA_ h (some a) 1 i = some v) (hdg : decode cc pc = .ok (.baload, 1))
    (kk : W p l e R s m args below meth c H locs cells slots Q (F0 m (pc + 1) ls (.int v :: rest))) : W p l e R s m args below meth c H locs cells slots Q (F0 m pc ls (.int i :: .ref a :: rest)) := by
  obtain ⟨hx, hb, -, -, -, hown, hts, K, -⟩ := C
  obtain ⟨a', n, f, ha, ho, hi, rfl⟩ := gA_some hv
  cases ha
  exact va_bald hx hb K.1 (hp_at N.1 ho) 0 1 rfl rfl hi hdg kk
theorem r_zald (C : cx_ p l R s m args meth c cc nL ret own k G h0 fr lo) (N : nw_ k G s h0 h H locs) {a : Nat} {i v : Int32} (hv : gA_ h (some a) 2 i = some v) (hdg : decode cc pc = .ok (.baload, 1))
    (kk : W p l e R s m args below meth c H locs cells slots Q (F0 m (pc + 1) ls (.int v :: rest))) : W p l e R s m args below meth c H locs cells slots Q (F0 m pc ls (.int i :: .ref a :: rest)) := by
  obtain ⟨hx, hb, -, -, -, hown, hts, K, -⟩ := C
  obtain ⟨a', n, f, ha, ho, hi, rfl⟩ := gA_some hv
  cases ha
  exact va_zald hx hb K.1 (hp_at N.1 ho) 0 2 rfl rfl hi hdg kk
theorem upd_V (f : Nat → Int32) (i : Nat) (x : Int32) : updV (fun j => Value.int (f j)) i (.int x) = fun j => .int (upd f i x j) := by
  funext q
  by_cases hq : q = i
  · subst hq
    simp [updV, upd]
  · simp [updV, upd, hq]
theorem r_iast (C : cx_ p l R s m args meth c cc nL ret own k G h0 fr lo) (N : nw_ k G s h0 h H locs) {a : Nat} {i x : Int32} {h' : hp_T} (hv : pA_ h (some a) 0 i x = some h') (hdg : decode cc pc = .ok (.iastore, 1))
    (kk : ∀ (H1 : Heap) (locs1 : List Loc), nw_ k G s h0 h' H1 locs1 → W p l e R s m args below meth c H1 locs1 (h_sz h' - h_sz h0) (h_sl h' - h_sl h0) Q (F0 m (pc + 1) ls rest)) : W p l e R s m args below meth c H locs (h_sz h - h_sz h0) (h_sl h - h_sl h0) Q (F0 m pc ls (.int x :: .int i :: .ref a :: rest)) := by
  obtain ⟨hx, hb, -, -, -, hown, hts, K, -⟩ := C
  obtain ⟨a', n, f, ha, ho, hi, rfl⟩ := pA_some hv
  cases ha
  obtain ⟨hba, hat⟩ := N.1.2.2 a _ ho
  have hat : H[a]? = some (arrV (G.2.1 0) n (fun j => .int (f j))) := hat
  refine W.iast hx hb hat ((K.1.2 0 _ rfl).1 n (fun j => .int (f j))) (fun q => by cases q) (by show ¬ (i < 0 ∨ (arrV _ _ _).slots.size ≤ _); rw [arrV_size]; exact hi) rfl rfl hdg fun H1 e z oq => ?_
  refine kk H1 _ ⟨hp_set N.1 hba z oq ?_, N.2.1.put z oq hba, N.2.2⟩
  show H1[a]? = some (arrV (G.2.1 0) n (fun j => .int (upd f i.toNatClampNeg x j)))
  rw [← upd_V, ← arrV_store]
  exact e
theorem r_bast (C : cx_ p l R s m args meth c cc nL ret own k G h0 fr lo) (N : nw_ k G s h0 h H locs) {a : Nat} {i x : Int32} {h' : hp_T} (hv : pA_ h (some a) 1 i x = some h') (hdg : decode cc pc = .ok (.bastore, 1))
    (kk : ∀ (H1 : Heap) (locs1 : List Loc), nw_ k G s h0 h' H1 locs1 → W p l e R s m args below meth c H1 locs1 (h_sz h' - h_sz h0) (h_sl h' - h_sl h0) Q (F0 m (pc + 1) ls rest)) : W p l e R s m args below meth c H locs (h_sz h - h_sz h0) (h_sl h - h_sl h0) Q (F0 m pc ls (.int x :: .int i :: .ref a :: rest)) := by
  obtain ⟨hx, hb, -, -, -, hown, hts, K, -⟩ := C
  obtain ⟨a', n, f, ha, ho, hi, rfl⟩ := pA_some hv
  cases ha
  obtain ⟨hba, hat⟩ := N.1.2.2 a _ ho
  have hat : H[a]? = some (arrV (G.2.1 1) n (fun j => .int (f j))) := hat
  refine W.bast hx hb hat ((K.1.2 1 _ rfl).1 n (fun j => .int (f j))) (fun q => by cases q) (by show ¬ (i < 0 ∨ (arrV _ _ _).slots.size ≤ _); rw [arrV_size]; exact hi) rfl rfl hdg fun H1 e z oq => ?_
  refine kk H1 _ ⟨hp_set N.1 hba z oq ?_, N.2.1.put z oq hba, N.2.2⟩
  show H1[a]? = some (arrV (G.2.1 1) n (fun j => .int (upd f i.toNatClampNeg (vp_nar .byte x) j)))
  rw [← upd_V, ← arrV_store]
  exact e
theorem r_zast (C : cx_ p l R s m args meth c cc nL ret own k G h0 fr lo) (N : nw_ k G s h0 h H locs) {a : Nat} {i x : Int32} {h' : hp_T} (hv : pA_ h (some a) 2 i x = some h') (hdg : decode cc pc = .ok (.bastore, 1))
    (kk : ∀ (H1 : Heap) (locs1 : List Loc), nw_ k G s h0 h' H1 locs1 → W p l e R s m args below meth c H1 locs1 (h_sz h' - h_sz h0) (h_sl h' - h_sl h0) Q (F0 m (pc + 1) ls rest)) : W p l e R s m args below meth c H locs (h_sz h - h_sz h0) (h_sl h - h_sl h0) Q (F0 m pc ls (.int x :: .int i :: .ref a :: rest)) := by
  obtain ⟨hx, hb, -, -, -, hown, hts, K, -⟩ := C
  obtain ⟨a', n, f, ha, ho, hi, rfl⟩ := pA_some hv
  cases ha
  obtain ⟨hba, hat⟩ := N.1.2.2 a _ ho
  have hat : H[a]? = some (arrV (G.2.1 2) n (fun j => .int (f j))) := hat
  refine W.zast hx hb hat ((K.1.2 2 _ rfl).1 n (fun j => .int (f j))) (fun q => by cases q) (by show ¬ (i < 0 ∨ (arrV _ _ _).slots.size ≤ _); rw [arrV_size]; exact hi) rfl rfl hdg fun H1 e z oq => ?_
  refine kk H1 _ ⟨hp_set N.1 hba z oq ?_, N.2.1.put z oq hba, N.2.2⟩
  show H1[a]? = some (arrV (G.2.1 2) n (fun j => .int (upd f i.toNatClampNeg (vp_nar .boolean x) j)))
  rw [← upd_V, ← arrV_store]
  exact e
end RW
