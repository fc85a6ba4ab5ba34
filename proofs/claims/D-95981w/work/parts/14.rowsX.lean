set_option maxRecDepth 100000
/-! rows for reference arrays, lengths, statics, casts, copies -/
/-- a reference array's contents, as an abstract cell -/
abbrev qA_ (t n : Nat) (f : Nat → Option Nat) : ob_T := .inl (t, n, .inr (.inr (.inr (.inr f))))
def gQ_ (h : hp_T) (r : Option Nat) (t : Nat) (i : Int32) : Option (Option Nat) := match r with
  | none => none
  | some a => match h.1 a with
    | some (.inl (t', n, .inr (.inr (.inr (.inr f))))) => if t' = t ∧ ¬ (i < 0 ∨ n ≤ i.toNatClampNeg) then some (f i.toNatClampNeg) else none
    | _ => none
/-- of a constant array of references -/
def gQr_ (k : kc_T) (r : Option Nat) (t : Nat) (i : Int32) : Option (Option Nat) := match r with
  | none => none
  | some a => match k_ro k a with
    | some (.inl (t', n, .inr (.inr (.inr (.inr f))))) => if t' = t ∧ ¬ (i < 0 ∨ n ≤ i.toNatClampNeg) then some (f i.toNatClampNeg) else none
    | _ => none
def len_ (h : hp_T) (r : Option Nat) (t : Nat) : Option Int32 := match r with
  | none => none
  | some a => match h.1 a with
    | some (.inl x) => if x.1 = t then some (Int32.ofNat x.2.1) else none
    | _ => none
def lenR_ (k : kc_T) (r : Option Nat) (t : Nat) : Option Int32 := match r with
  | none => none
  | some a => match k_ro k a with
    | some (.inl x) => if x.1 = t then some (Int32.ofNat x.2.1) else none
    | _ => none
/-- bytes and their number, of an own array or a constant one -/
def lenB_ (k : kc_T) (h : hp_T) (r : Option Nat) : Option Int32 := match len_ h r 1 with
  | some v => some v
  | none => lenR_ k r 1
def gAr_ (k : kc_T) (r : Option Nat) (t : Nat) (i : Int32) : Option Int32 := match r with
  | none => none
  | some a => match k_ro k a with
    | some (.inl (t', n, .inl f)) => if t' = t ∧ ¬ (i < 0 ∨ n ≤ i.toNatClampNeg) then some (f i.toNatClampNeg) else none
    | _ => none
def gB_ (k : kc_T) (h : hp_T) (r : Option Nat) (i : Int32) : Option Int32 := match gA_ h r 1 i with
  | some v => some v
  | none => gAr_ k r 1 i
theorem gQ_some {h : hp_T} {r : Option Nat} {t : Nat} {i : Int32} {v : Option Nat} (e : gQ_ h r t i = some v) : ∃ a n f, r = some a ∧ h.1 a = some (qA_ t n f) ∧ vp_in i n ∧ v = f i.toNatClampNeg := by
  cases r with
  | none => cases e
  | some a =>
    simp only [gQ_] at e
    split at e
    · next t' n f ho =>
      by_cases hc : t' = t ∧ ¬ (i < 0 ∨ n ≤ i.toNatClampNeg)
      · rw [if_pos hc] at e
        cases e
        obtain ⟨rfl, hc⟩ := hc
        exact ⟨a, n, f, rfl, ho, hc, rfl⟩
      · rw [if_neg hc] at e
        cases e
    · cases e
theorem gQr_some {k : kc_T} {r : Option Nat} {t : Nat} {i : Int32} {v : Option Nat} (e : gQr_ k r t i = some v) : ∃ a n f, r = some a ∧ k_ro k a = some (qA_ t n f) ∧ vp_in i n ∧ v = f i.toNatClampNeg := by
  cases r with
  | none => cases e
  | some a =>
    simp only [gQr_] at e
    split at e
    · next t' n f ho =>
      by_cases hc : t' = t ∧ ¬ (i < 0 ∨ n ≤ i.toNatClampNeg)
      · rw [if_pos hc] at e
        cases e
        obtain ⟨rfl, hc⟩ := hc
        exact ⟨a, n, f, rfl, ho, hc, rfl⟩
      · rw [if_neg hc] at e
        cases e
    · cases e
theorem gAr_some {k : kc_T} {r : Option Nat} {t : Nat} {i : Int32} {v : Int32} (e : gAr_ k r t i = some v) : ∃ a n f, r = some a ∧ k_ro k a = some (.inl (t, n, .inl f)) ∧ vp_in i n ∧ v = f i.toNatClampNeg := by
  cases r with
  | none => cases e
  | some a =>
    simp only [gAr_] at e
    split at e
    · next t' n f ho =>
      by_cases hc : t' = t ∧ ¬ (i < 0 ∨ n ≤ i.toNatClampNeg)
      · rw [if_pos hc] at e
        cases e
        obtain ⟨rfl, hc⟩ := hc
        exact ⟨a, n, f, rfl, ho, hc, rfl⟩
      · rw [if_neg hc] at e
        cases e
    · cases e
theorem len_some {h : hp_T} {r : Option Nat} {t : Nat} {v : Int32} (e : len_ h r t = some v) : ∃ a x, r = some a ∧ h.1 a = some (.inl (t, x)) ∧ v = Int32.ofNat x.1 := by
  cases r with
  | none => cases e
  | some a =>
    simp only [len_] at e
    split at e
    · next x ho =>
      by_cases hc : x.1 = t
      · rw [if_pos hc] at e
        cases e
        subst hc
        exact ⟨a, x.2, rfl, ho, rfl⟩
      · rw [if_neg hc] at e
        cases e
    · cases e
theorem lenR_some {k : kc_T} {r : Option Nat} {t : Nat} {v : Int32} (e : lenR_ k r t = some v) : ∃ a x, r = some a ∧ k_ro k a = some (.inl (t, x)) ∧ v = Int32.ofNat x.1 := by
  cases r with
  | none => cases e
  | some a =>
    simp only [lenR_] at e
    split at e
    · next x ho =>
      by_cases hc : x.1 = t
      · rw [if_pos hc] at e
        cases e
        subst hc
        exact ⟨a, x.2, rfl, ho, rfl⟩
      · rw [if_neg hc] at e
        cases e
    · cases e
theorem gQ_S {h : hp_T} {r : Option Nat} {t : Nat} {i : Int32} {v : Option Nat} (e : gQ_ h r t i = some v) : ∃ a, r = some a := by
  obtain ⟨a, -, -, h, -⟩ := gQ_some e
  exact ⟨a, h⟩
theorem gQr_S {k : kc_T} {r : Option Nat} {t : Nat} {i : Int32} {v : Option Nat} (e : gQr_ k r t i = some v) : ∃ a, r = some a := by
  obtain ⟨a, -, -, h, -⟩ := gQr_some e
  exact ⟨a, h⟩
theorem gAr_S {k : kc_T} {r : Option Nat} {t : Nat} {i : Int32} {v : Int32} (e : gAr_ k r t i = some v) : ∃ a, r = some a := by
  obtain ⟨a, -, -, h, -⟩ := gAr_some e
  exact ⟨a, h⟩
theorem len_S {h : hp_T} {r : Option Nat} {t : Nat} {v : Int32} (e : len_ h r t = some v) : ∃ a, r = some a := by
  obtain ⟨a, -, h, -⟩ := len_some e
  exact ⟨a, h⟩
theorem lenR_S {k : kc_T} {r : Option Nat} {t : Nat} {v : Int32} (e : lenR_ k r t = some v) : ∃ a, r = some a := by
  obtain ⟨a, -, h, -⟩ := lenR_some e
  exact ⟨a, h⟩
theorem lenB_or {k : kc_T} {h : hp_T} {r : Option Nat} {v : Int32} (e : lenB_ k h r = some v) : len_ h r 1 = some v ∨ lenR_ k r 1 = some v := by
  unfold lenB_ at e
  split at e
  · next w hw => cases e; exact Or.inl hw
  · exact Or.inr e
theorem lenB_S {k : kc_T} {h : hp_T} {r : Option Nat} {v : Int32} (e : lenB_ k h r = some v) : ∃ a, r = some a := by
  rcases lenB_or e with z | z
  · exact len_S z
  · exact lenR_S z
theorem gB_or {k : kc_T} {h : hp_T} {r : Option Nat} {i v : Int32} (e : gB_ k h r i = some v) : gA_ h r 1 i = some v ∨ gAr_ k r 1 i = some v := by
  unfold gB_ at e
  split at e
  · next w hw => cases e; exact Or.inl hw
  · exact Or.inr e
theorem gB_S {k : kc_T} {h : hp_T} {r : Option Nat} {i v : Int32} (e : gB_ k h r i = some v) : ∃ a, r = some a := by
  rcases gB_or e with z | z
  · exact gA_S z
  · exact gAr_S z
/-- which values an array of references may take: any object of a known class, an int array, a State -/
def okQ_ (k : kc_T) (h : hp_T) (t : Nat) (v : Option Nat) : Bool := match v with
  | none => t == 5
  | some a => match h.1 a with
    | some (.inr o) => (t == 3 && (o.1 == 5 || o.1 == 6 || o.1 == 7 || o.1 == 8 || o.1 == 9)) || (t == 5 && o.1 == 1)
    | some (.inl x) => t == 4 && x.1 == 0
    | none => false
def pQ_ (k : kc_T) (h : hp_T) (r : Option Nat) (t : Nat) (i : Int32) (v : Option Nat) : Option hp_T := match r with
  | none => none
  | some a => match h.1 a with
    | some (.inl (t', n, .inr (.inr (.inr (.inr f))))) => if t' = t ∧ ¬ (i < 0 ∨ n ≤ i.toNatClampNeg) ∧ okQ_ k h t v = true then some (st_ h a (qA_ t n (va_up f i.toNatClampNeg v))) else none
    | _ => none
theorem pQ_some {k : kc_T} {h h' : hp_T} {r : Option Nat} {t : Nat} {i : Int32} {v : Option Nat} (e : pQ_ k h r t i v = some h') : ∃ a n f, r = some a ∧ h.1 a = some (qA_ t n f) ∧ vp_in i n ∧ okQ_ k h t v = true ∧ h' = st_ h a (qA_ t n (va_up f i.toNatClampNeg v)) := by
  cases r with
  | none => cases e
  | some a =>
    simp only [pQ_] at e
    split at e
    · next t' n f ho =>
      by_cases hc : t' = t ∧ ¬ (i < 0 ∨ n ≤ i.toNatClampNeg) ∧ okQ_ k h t v = true
      · rw [if_pos hc] at e
        cases e
        obtain ⟨rfl, hc, hv⟩ := hc
        exact ⟨a, n, f, rfl, ho, hc, hv, rfl⟩
      · rw [if_neg hc] at e
        cases e
    · cases e
theorem pQ_S {k : kc_T} {h h' : hp_T} {r : Option Nat} {t : Nat} {i : Int32} {v : Option Nat} (e : pQ_ k h r t i v = some h') : ∃ a, r = some a := by
  obtain ⟨a, -, -, h, -⟩ := pQ_some e
  exact ⟨a, h⟩
/-- a new array of references -/
def nQ_ (k : kc_T) (h : hp_T) (t : Nat) (n : Int32) : Option (Nat × hp_T) :=
  if ¬ n < 0 ∧ n.toNatClampNeg ≤ 1000000 ∧ h_sz h + 1 ≤ k_lc k ∧ h_sl h + n.toNatClampNeg ≤ k_ls k then some (h_sz h, mk_ h (qA_ t n.toNatClampNeg (fun _ => none)) n.toNatClampNeg) else none
theorem nQ_some {k : kc_T} {h : hp_T} {t : Nat} {n : Int32} {x : Nat × hp_T} (hv : nQ_ k h t n = some x) : ¬ n < 0 ∧ n.toNatClampNeg ≤ 1000000 ∧ (h_sz h + 1 ≤ k_lc k ∧ h_sl h + n.toNatClampNeg ≤ k_ls k) ∧ x = (h_sz h, mk_ h (qA_ t n.toNatClampNeg (fun _ => none)) n.toNatClampNeg) := by
  unfold nQ_ at hv
  split at hv
  · next hc =>
    cases hv
    exact ⟨hc.1, hc.2.1, hc.2.2, rfl⟩
  · cases hv
theorem ass_self (vm : Vm) (c : ClassId) : vm.assignable c c = true := by
  show vm.assignableAux _ c c = true
  unfold Vm.assignableAux
  simp
section RX
variable {p : Program} {l : Launch} {e : Env} {R : Room} {s : State} {m : MethodId} {args : Array Value} {below : List Frame} {meth : Method} {c : Code} {H : Heap} {locs : List Loc} {cells slots : Nat} {Q : State → Prop}
variable {cc : ByteArray} {nL : Nat} {ret : Option FieldType} {own : String} {k : kc_T} {G : gx_T} {h0 h h' : hp_T} {fr lo : Nat} {pc : Nat} {ls : Array Slot} {rest : List Value}
theorem r_alen (t : Nat) {ty : FieldType} (C : cx_ p l R s m args meth c cc nL ret own k G h0 fr lo) (N : nw_ k G s h0 h H locs) {a : Nat} {v : Int32} (hv : len_ h (some a) t = some v) (ht : (tg_ G)[t]? = some (G.2.1 t, ty)) (hdg : decode cc pc = .ok (.arraylength, 1))
    (kk : W p l e R s m args below meth c H locs cells slots Q (F0 m (pc + 1) ls (.int v :: rest))) : W p l e R s m args below meth c H locs cells slots Q (F0 m pc ls (.ref a :: rest)) := by
  obtain ⟨hx, hb, -, -, -, hown, hts, K, -⟩ := C
  obtain ⟨a', x, ha, ho, rfl⟩ := len_some hv
  cases ha
  exact va_alen hx hb K.1 (hp_at N.1 ho) 0 t rfl ht rfl hdg kk
theorem r_alenR (t : Nat) (C : cx_ p l R s m args meth c cc nL ret own k G h0 fr lo) (N : nw_ k G s h0 h H locs) {a : Nat} {v : Int32} (hv : lenR_ k (some a) t = some v) (hdg : decode cc pc = .ok (.arraylength, 1))
    (kk : W p l e R s m args below meth c H locs cells slots Q (F0 m (pc + 1) ls (.int v :: rest))) : W p l e R s m args below meth c H locs cells slots Q (F0 m pc ls (.ref a :: rest)) := by
  obtain ⟨hx, hb, -, -, -, hown, hts, K, -⟩ := C
  obtain ⟨a', x, ha, ho, rfl⟩ := lenR_some hv
  cases ha
  have hr := K.2.2.1 a _ ho
  obtain ⟨n, f | f | f | f | f⟩ := x
  · exact va_tlen hx hb hr N.2.1 rfl hdg kk
  · exact hr.elim
  · exact hr.elim
  · exact hr.elim
  · exact va_tlen hx hb hr N.2.1 rfl hdg kk
theorem r_alenB (C : cx_ p l R s m args meth c cc nL ret own k G h0 fr lo) (N : nw_ k G s h0 h H locs) {a : Nat} {v : Int32} (hv : lenB_ k h (some a) = some v) (hdg : decode cc pc = .ok (.arraylength, 1))
    (kk : W p l e R s m args below meth c H locs cells slots Q (F0 m (pc + 1) ls (.int v :: rest))) : W p l e R s m args below meth c H locs cells slots Q (F0 m pc ls (.ref a :: rest)) := by
  rcases lenB_or hv with z | z
  · exact r_alen 1 C N z rfl hdg kk
  · exact r_alenR 1 C N z hdg kk
theorem r_baldB (C : cx_ p l R s m args meth c cc nL ret own k G h0 fr lo) (N : nw_ k G s h0 h H locs) {a : Nat} {i v : Int32} (hv : gB_ k h (some a) i = some v) (hdg : decode cc pc = .ok (.baload, 1))
    (kk : W p l e R s m args below meth c H locs cells slots Q (F0 m (pc + 1) ls (.int v :: rest))) : W p l e R s m args below meth c H locs cells slots Q (F0 m pc ls (.int i :: .ref a :: rest)) := by
  rcases gB_or hv with z | z
  · exact r_bald C N z hdg kk
  · obtain ⟨hx, hb, -, -, -, hown, hts, K, -⟩ := C
    obtain ⟨a', n, f, ha, ho, hi, rfl⟩ := gAr_some z
    cases ha
    exact va_tb hx hb (K.2.2.1 a _ ho) N.2.1 hi rfl hdg kk
theorem r_aald (t : Nat) {ty : FieldType} (C : cx_ p l R s m args meth c cc nL ret own k G h0 fr lo) (N : nw_ k G s h0 h H locs) {a : Nat} {i : Int32} {v : Option Nat} (hv : gQ_ h (some a) t i = some v) (ht : (tg_ G)[t]? = some (G.2.1 t, ty)) (hty : ty.isReference = true) (hdg : decode cc pc = .ok (.aaload, 1))
    (kk : W p l e R s m args below meth c H locs cells slots Q (F0 m (pc + 1) ls (va_rf v :: rest))) : W p l e R s m args below meth c H locs cells slots Q (F0 m pc ls (.int i :: .ref a :: rest)) := by
  obtain ⟨hx, hb, -, -, -, hown, hts, K, -⟩ := C
  obtain ⟨a', n, f, ha, ho, hi, rfl⟩ := gQ_some hv
  cases ha
  obtain ⟨hba, hat⟩ := N.1.2.2 a _ ho
  have hat : H[a]? = some (arrV (G.2.1 t) n (fun j => va_rf (f j))) := hat
  have hlt : i.toNatClampNeg < n := Nat.not_le.mp fun q => hi (Or.inr q)
  exact W.aald (v := va_rf (f i.toNatClampNeg)) (ty := ty) hx hb hat ((K.1.2 t _ ht).1 n (fun j => va_rf (f j))) hty (fun q => by cases q) (by show ¬ (i < 0 ∨ (arrV _ _ _).slots.size ≤ _); rw [arrV_size]; exact hi) (by rw [arrV_read _ _ hlt]) rfl rfl hdg kk
theorem r_aaldR (t : Nat) {E : String} (C : cx_ p l R s m args meth c cc nL ret own k G h0 fr lo) (N : nw_ k G s h0 h H locs) {a : Nat} {i : Int32} {v : Option Nat} (hv : gQr_ k (some a) t i = some v) (hty : aty_ t = .object E) (hdg : decode cc pc = .ok (.aaload, 1))
    (kk : W p l e R s m args below meth c H locs cells slots Q (F0 m (pc + 1) ls (va_rf v :: rest))) : W p l e R s m args below meth c H locs cells slots Q (F0 m pc ls (.int i :: .ref a :: rest)) := by
  obtain ⟨hx, hb, -, -, -, hown, hts, K, -⟩ := C
  obtain ⟨a', n, f, ha, ho, hi, rfl⟩ := gQr_some hv
  cases ha
  have hr : va_T (aty_ t) a n (fun j => va_rf (f j)) (ax_ k) s s.heap := K.2.2.1 a _ ho
  rw [hty] at hr
  exact vb_tq hx hb hr N.2.1 hi rfl hdg kk
theorem upd_Q (f : Nat → Option Nat) (i : Nat) (x : Option Nat) : updV (fun j => va_rf (f j)) i (va_rf x) = fun j => va_rf (va_up f i x j) := by
  funext q
  by_cases hq : q = i
  · subst hq
    simp [updV, va_up]
  · simp [updV, va_up, hq]
theorem cls_ass {C : cx_ p l R s m args meth c cc nL ret own k G h0 fr lo} {x y : String} (h : va_Nw (.castable x y) s) {cx cy : ClassId} (h1 : s.vm.findClass x = some cx) (h2 : s.vm.findClass y = some cy) : s.vm.assignable cx cy = true := by
  obtain ⟨c0, t0, f1, f2, f3⟩ := Cond.castable_spec (va_Nw.use (A := args) rfl h)
  cases h1.symm.trans f1
  cases h2.symm.trans f2
  exact f3
/-- a reference is stored in an array -/
theorem r_aast (t : Nat) (C : cx_ p l R s m args meth c cc nL ret own k G h0 fr lo) (N : nw_ k G s h0 h H locs) {a : Nat} {i : Int32} {v : Option Nat} (hv : pQ_ k h (some a) t i v = some h') (ht : t = 3 ∨ t = 4 ∨ t = 5) (hdg : decode cc pc = .ok (.aastore, 1))
    (kk : ∀ (H1 : Heap) (locs1 : List Loc), nw_ k G s h0 h' H1 locs1 → W p l e R s m args below meth c H1 locs1 (h_sz h' - h_sz h0) (h_sl h' - h_sl h0) Q (F0 m (pc + 1) ls rest)) : W p l e R s m args below meth c H locs (h_sz h - h_sz h0) (h_sl h - h_sl h0) Q (F0 m pc ls (va_rf v :: .int i :: .ref a :: rest)) := by
  have C0 := C
  obtain ⟨hx, hb, -, -, -, hown, hts, K, -⟩ := C
  obtain ⟨a', n, f, ha, ho, hi, hok, rfl⟩ := pQ_some hv
  cases ha
  obtain ⟨hba, hat⟩ := N.1.2.2 a _ ho
  have hat : H[a]? = some (arrV (G.2.1 t) n (fun j => va_rf (f j))) := hat
  have hlt : i.toNatClampNeg < n := Nat.not_le.mp fun q => hi (Or.inr q)
  have hi0 : ¬ i < 0 := fun q => hi (Or.inl q)
  have fin : ∀ H1 : Heap, H1[a]? = some ((arrV (G.2.1 t) n (fun j => va_rf (f j))).setSlot i.toNatClampNeg (va_rf v)) → H1.size = H.size → (∀ q, q ≠ a → H1[q]? = H[q]?) → nw_ k G s h0 (st_ h a (qA_ t n (va_up f i.toNatClampNeg v))) H1 (locs ++ [⟨a, i.toNatClampNeg⟩]) := by
    intro H1 e z oq
    refine ⟨hp_set N.1 hba z oq ?_, N.2.1.put z oq hba, N.2.2⟩
    show H1[a]? = some (arrV (G.2.1 t) n (fun j => va_rf (va_up f i.toNatClampNeg v j)))
    rw [← upd_Q, ← arrV_store]
    exact e
  cases v with
  | none =>
    have ht5 : t = 5 := by simpa [okQ_] using hok
    subst ht5
    exact va_WaastN hx hb hat ((K.1.2 5 _ rfl).1 n (fun j => va_rf (f j))) (fun q => by cases q) (by rw [arrV_size]; exact hi) rfl rfl hdg fun H1 e z oq => kk H1 _ (fin H1 e z oq)
  | some y =>
    simp only [okQ_] at hok
    cases hy : h.1 y with
    | none => rw [hy] at hok; cases hok
    | some o =>
      rw [hy] at hok
      obtain ⟨hby, haty⟩ := N.1.2.2 y _ hy
      cases o with
      | inl x =>
        obtain ⟨tx, n2, fx⟩ := x
        have hok : t = 4 ∧ tx = 0 := by simpa using hok
        obtain ⟨rfl, rfl⟩ := hok
        obtain ⟨comp, cA, kA, f1, -, f3, f4, f5⟩ := arrayOverA_spec K.2.2.2.1.2.1.2.1.2.2
        have hcA : cA = G.2.1 4 := by
          have h1 : s.vm.findClass ("[" ++ (FieldType.array .int).toString) = some (G.2.1 4) := (K.1.2 4 _ rfl).2
          exact Option.some.inj (f5.symm.trans h1)
        have hcI : comp = G.2.1 0 := by
          have h1 : s.vm.findClass ("[" ++ FieldType.int.toString) = some (G.2.1 0) := (K.1.2 0 _ rfl).2
          exact Option.some.inj (f1.symm.trans h1)
        subst hcA; subst hcI
        obtain ⟨kI, hkI, -⟩ := Vm.findClass_spec f1
        have hcy : H[y]? = some (vp_cell (G.2.1 0) (n2, fx)) := haty
        have hcls : (vp_cell (G.2.1 0) (n2, fx)).cls = G.2.1 0 := by
          rcases fx with fx | fx | fx | fx | fx <;> rfl
        have hvmn : (vp_cell (G.2.1 0) (n2, fx)).vm = .none := by
          rcases fx with fx | fx | fx | fx | fx <;> rfl
        refine W.aast hx hb hat (fun q z => by cases z) (fun z => by cases z) f3 f4 rfl hkI ⟨hi0, by rw [arrV_size]; exact hlt⟩ hcy (fun q z => by rw [hvmn] at z; cases z) (by rw [hcls]; exact hkI) ?_ rfl rfl hdg fun H1 e z oq => kk H1 _ (fin H1 e z oq)
        rw [hcls]
        exact ass_self _ _
      | inr o =>
        obtain ⟨ci, fs⟩ := o
        obtain ⟨r, hr1, cellV, g1, g2, g3, -⟩ := haty
        have hr1 : cl_A[ci]? = some r := hr1
        obtain ⟨-, hfc, kC, hkC, -⟩ := K.1.1 ci _ hr1
        have hok : (t = 3 ∧ (ci = 5 ∨ ci = 6 ∨ ci = 7 ∨ ci = 8 ∨ ci = 9)) ∨ (t = 5 ∧ ci = 1) := by
          have := hok
          simp at this
          omega
        have done : ∀ E : String, va_RA s (G.2.1 t) (.object E) → va_Nw (.castable r.1 E) s → W p l e R s m args below meth c H locs (h_sz h - h_sz h0) (h_sl h - h_sl h0) Q (F0 m pc ls (va_rf (some y) :: .int i :: .ref a :: rest)) := by
          intro E hRA hcast
          obtain ⟨kA, comp, k1, k2, k3, -⟩ := hRA
          obtain ⟨kE, hkE, -⟩ := Vm.findClass_spec k3
          refine W.aast hx hb hat (fun q z => by cases z) (fun z => by cases z) k1 k2 rfl hkE ⟨hi0, by rw [arrV_size]; exact hlt⟩ g1 (fun q z => by rw [g3] at z; cases z) (by rw [g2]; exact hkC) ?_ rfl rfl hdg fun H1 e z oq => kk H1 _ (fin H1 e z oq)
          rw [g2]
          exact cls_ass (C := C0) hcast hfc k3
        have nx := K.2.2.2.1.2.1.1
        rcases hok with ⟨rfl, hci⟩ | ⟨rfl, rfl⟩
        · rcases hci with rfl | rfl | rfl | rfl | rfl
          · cases hr1; exact done _ (K.1.2 3 _ rfl).2 (nx _ nw_q1651)
          · cases hr1; exact done _ (K.1.2 3 _ rfl).2 (nx _ nw_q1657)
          · cases hr1; exact done _ (K.1.2 3 _ rfl).2 (nx _ nw_q1658)
          · cases hr1; exact done _ (K.1.2 3 _ rfl).2 (nx _ nw_q1659)
          · cases hr1; exact done _ (K.1.2 3 _ rfl).2 (nx _ nw_q1660)
        · cases hr1
          obtain ⟨kA, comp, k1, k2, k3, -⟩ := (K.1.2 5 _ rfl).2
          cases hfc.symm.trans k3
          refine W.aast hx hb hat (fun q z => by cases z) (fun z => by cases z) k1 k2 rfl hkC ⟨hi0, by rw [arrV_size]; exact hlt⟩ g1 (fun q z => by rw [g3] at z; cases z) (by rw [g2]; exact hkC) ?_ rfl rfl hdg fun H1 e z oq => kk H1 _ (fin H1 e z oq)
          rw [g2]
          exact va_assign (K.1.1 1 _ rfl).2
end RX
