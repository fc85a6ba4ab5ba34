set_option maxRecDepth 100000
/-! OWN BASE: an abstract heap, what it says of the machine's heap, contracts over it, a row for each instruction -/
/-- abstract cells: arrays (tag, length, contents), objects (class number, fields) -/
abbrev ob_T : Type := (Nat × vp_A) ⊕ (Nat × List Value)
/-- abstract heap: its cells, how many cells there are, how many slots were made -/
abbrev hp_T : Type := (Nat → Option ob_T) × Nat × Nat
/-- what is fixed in a run: bounds on cells and slots, the addresses that may be written, statics, cells that nobody writes -/
abbrev kc_T : Type := Nat × Nat × (Nat → Prop) × (Nat → Value) × (Nat → Option ob_T)
/-- what is fixed of the machine: classes and slots, array classes, what else is known of the tables -/
abbrev gx_T : Type := va_G × (Nat → ClassId) × (State → Prop)
abbrev k_lc (k : kc_T) : Nat := k.1
abbrev k_ls (k : kc_T) : Nat := k.2.1
abbrev ax_ (k : kc_T) : Nat → Prop := k.2.2.1
abbrev k_st (k : kc_T) : Nat → Value := k.2.2.2.1
abbrev k_ro (k : kc_T) : Nat → Option ob_T := k.2.2.2.2
abbrev h_sz (h : hp_T) : Nat := h.2.1
abbrev h_sl (h : hp_T) : Nat := h.2.2
abbrev cl_A : List vw_C := [(RX0, TX0, 24), (RX1, TX1, 7), (RX2, TX2, 35), (RX3, TX3, 9), (RX4, TX4, 7), (RX5, TX5, 2), (RX7, TX7, 1), (RX8, TX8, 1), (RX9, TX9, 1), (RX10, TX10, 1), (RJ2, TJ2, 4), (RJ3, TJ3, 4)]
/-- class names by number: those of cl_A, then those of constant objects -/
def cn_ (ci : Nat) : String := match ci with
  | 0 => RX0
  | 1 => RX1
  | 2 => RX2
  | 3 => RX3
  | 4 => RX4
  | 5 => RX5
  | 6 => RX7
  | 7 => RX8
  | 8 => RX9
  | 9 => RX10
  | 10 => RJ2
  | 11 => RJ3
  | 20 => "AdjectiveCoupons$Noun"
  | 21 => "AdjectiveCoupons$Plain"
  | 22 => "AdjectiveCoupons$Colour"
  | 23 => "AdjectiveCoupons$Half"
  | 24 => "AdjectiveCoupons$Name"
  | _ => "java/lang/CharacterDataLatin1"
def aty_ (t : Nat) : FieldType := match t with
  | 0 => .int
  | 1 => .byte
  | 2 => .boolean
  | 3 => .object "java/lang/Object"
  | 4 => .array .int
  | 5 => .object "AdjectiveCoupons$State"
  | 6 => .object "java/lang/String"
  | _ => .object "AdjectiveCoupons$Kind"
def cv_ (G : gx_T) (o : ob_T) : va_E := match o with
  | .inl x => .inl (G.2.1 x.1, x.2)
  | .inr x => .inr x
abbrev tg_ (G : gx_T) : List (ClassId × FieldType) := [(G.2.1 0, .int), (G.2.1 1, .byte), (G.2.1 2, .boolean), (G.2.1 3, .object "java/lang/Object"), (G.2.1 4, .array .int), (G.2.1 5, .object "AdjectiveCoupons$State")]
/-- the machine's heap is as the abstract heap says -/
def hp_ok (k : kc_T) (G : gx_T) (h : hp_T) (H : Heap) : Prop :=
  h_sz h = H.size ∧ ((∀ q : Nat, H.size ≤ q → ax_ k q) ∧ h_sz h ≤ k_lc k ∧ h_sl h ≤ k_ls k) ∧ ∀ a o, h.1 a = some o → ax_ k a ∧ va_at G.1 cl_A (a, cv_ G o) H
/-- a cell that nobody writes -/
def ro_ok (k : kc_T) (a : Nat) (o : ob_T) (U : State) (H : Heap) : Prop := match o with
  | .inl (t, n, .inl f) => va_T (aty_ t) a n (fun j => .int (f j)) (ax_ k) U H
  | .inl (t, n, .inr (.inr (.inr (.inr f)))) => va_T (aty_ t) a n (fun j => va_rf (f j)) (ax_ k) U H
  | .inl _ => False
  | .inr (ci, fs) => va_O (cn_ ci) a (ax_ k) U H ∧ (ci = 11 → ∃ v, fs = [.ref v, .int 0] ∧ va_OF "java/lang/String" "value" "[B" (.ref v) a (ax_ k) U H ∧ va_OF "java/lang/String" "coder" "B" (.int 0) a (ax_ k) U H)
/-- statics that are read, by number -/
abbrev st_L : List (String × String × String) := [("AdjectiveCoupons", "KINDS", "[LAdjectiveCoupons$Kind;"), ("AdjectiveCoupons", "PLAINEST", "LAdjectiveCoupons$One;"), ("AdjectiveCoupons", "HEADS", "[Ljava/lang/String;"), ("java/lang/String", "COMPACT_STRINGS", "Z"), ("java/lang/CharacterDataLatin1", "instance", "Ljava/lang/CharacterDataLatin1;"), ("java/lang/CharacterDataLatin1", "DIGITS", "[B"), ("jdk/internal/util/Preconditions", "SIOOBE_FORMATTER", "Ljava/util/function/BiFunction;"), ("java/lang/Throwable", "UNASSIGNED_STACK", "[Ljava/lang/StackTraceElement;"), ("java/lang/Throwable", "SUPPRESSED_SENTINEL", "Ljava/util/List;")]
/-- arrays over references are known -/
def ao_ (t : FieldType) (U : State) : Prop := (Cond.arrayOver t).before #[] U = true
abbrev buyOff_ : MethodName := ⟨"AdjectiveCoupons$Buyer", "off", "([I[Z)I"⟩
/-- classes that are not below others -/
abbrev nc_L : List (String × String) := [("AdjectiveCoupons$Noun", "AdjectiveCoupons$Name"), ("AdjectiveCoupons$Plain", "AdjectiveCoupons$Name"), ("AdjectiveCoupons$Colour", "AdjectiveCoupons$Name"), ("AdjectiveCoupons$Half", "AdjectiveCoupons$Name"), ("AdjectiveCoupons$Noun", "AdjectiveCoupons$Colour"), ("AdjectiveCoupons$Plain", "AdjectiveCoupons$Colour"), ("AdjectiveCoupons$Half", "AdjectiveCoupons$Colour"), ("AdjectiveCoupons$Name", "AdjectiveCoupons$Colour"),
  ("AdjectiveCoupons$Citizen", "AdjectiveCoupons$Lover"), ("AdjectiveCoupons$Citizen", "AdjectiveCoupons$Critic"), ("AdjectiveCoupons$Citizen", "AdjectiveCoupons$Poet"), ("AdjectiveCoupons$Lover", "AdjectiveCoupons$Critic"), ("AdjectiveCoupons$Lover", "AdjectiveCoupons$Poet"), ("AdjectiveCoupons$Critic", "AdjectiveCoupons$Citizen"), ("AdjectiveCoupons$Critic", "AdjectiveCoupons$Lover"), ("AdjectiveCoupons$Critic", "AdjectiveCoupons$Poet"), ("AdjectiveCoupons$Poet", "AdjectiveCoupons$Citizen"), ("AdjectiveCoupons$Poet", "AdjectiveCoupons$Lover")]
/-- String constants that are loaded -/
abbrev sr_L : List (String × Nat × String) := [("AdjectiveCoupons$Reader", 15, ""), ("AdjectiveCoupons$Reader", 136, ";")]
/-- what else the tables say -/
def NX_ (U : State) : Prop :=
  (∀ w ∈ nw_L, va_Nw w U) ∧ (va_AO "java/lang/Object" U ∧ va_AO "AdjectiveCoupons$State" U ∧ ao_ (.array .int) U) ∧
  (va_Fw "AdjectiveCoupons$Critic" buyOff_ ⟨"AdjectiveCoupons$Critic", "off", "([I[Z)I"⟩ U ∧ va_Fw "AdjectiveCoupons$Poet" buyOff_ ⟨"AdjectiveCoupons$Poet", "off", "([I[Z)I"⟩ U) ∧
  (∀ q ∈ nc_L, va_Nc q.1 q.2 U) ∧ NY_ U
theorem ao_moved {t : FieldType} {u U : State} (hvm : u.vm.Alike U.vm) (h : ao_ (.array t) u) : ao_ (.array t) U := by
  obtain ⟨comp, c, k, h1, h2, h3, h4, h5⟩ := arrayOverA_spec h
  obtain ⟨k', hk', he⟩ := hvm.2.2 _ _ h3
  have hi : (U.vm.classes.findIdx? fun (x : Class) => match x.kind with | .array component _ => component == comp | _ => false) = some c := by
    rw [hvm.findIdx?_eq _ (fun _ => rfl)]
    exact h2
  have hkind : k'.kind = .array comp (.array t) := by rw [he]; exact h4
  have f1 : U.vm.findClass (FieldType.array t).toString = some comp := by rw [hvm.findClass]; exact h1
  have f2 : U.vm.findClass ("[" ++ (FieldType.array t).toString) = some c := by rw [hvm.findClass]; exact h5
  unfold ao_ Cond.before Cond.holds
  simp only [Cond.value]
  rw [f1, Option.bind_some]
  refine (congrArg (fun o : Option Nat => (o.bind (fun c => (U.vm.classes[c]?).map fun (k : Class) => match k.kind with | .array _ ty => decide (ty = FieldType.array t) && decide (U.vm.findClass ("[" ++ (FieldType.array t).toString) = some c) | _ => false) == some true)) hi).trans ?_
  simp [hk', hkind, f2]
theorem NX_moved {u U : State} (hW : u.WarmedH U.vm) (h : NX_ u) : NX_ U :=
  ⟨nw_moved hW h.1, ⟨h.2.1.1.moved hW.alike, h.2.1.2.1.moved hW.alike, ao_moved hW.alike h.2.1.2.2⟩, ⟨h.2.2.1.1.moved ⟨by decide, by decide⟩ hW.alike, h.2.2.1.2.moved ⟨by decide, by decide⟩ hW.alike⟩, fun q hq => (h.2.2.2.1 q hq).moved hW.alike, NY_moved hW h.2.2.2.2⟩
/-- a static field's place, and that it holds a reference -/
def tz_ (C n d : String) (A : Nat → Prop) (U : State) (H : Heap) : Prop := ∃ (c : ClassId) (kf : Class) (i : Nat) (f : Field) (a : Nat) (cell : Cell) (r : Option Nat), U.vm.findClass C = some c ∧ U.fieldFound? C n d = some (c, kf, i, f) ∧ f.isStatic = true ∧ kf.statics = some a ∧ H[a]? = some cell ∧ cell.vm.isStatics = true ∧ cell.cls = c ∧ f.slot < cell.slots.size ∧ kf.staticTypes[f.slot]? = some f.type ∧ cell.slots[f.slot]? = some (va_rf r) ∧ ¬ A a
theorem tz_.moved {C n d : String} {A : Nat → Prop} {u U : State} {H : Heap} (hvm : u.vm.Alike U.vm) (h : tz_ C n d A u H) : tz_ C n d A U H := by
  obtain ⟨c, kf, i, f, a, cell, r, h0, h1, h2, h3, h4, h5, h6, h7, h8, h9⟩ := h
  obtain ⟨k', hi', he⟩ := State.fieldFound?_setVm hvm h1
  exact ⟨c, k', i, f, a, cell, r, by rw [hvm.findClass]; exact h0, hi', h2, by rw [he]; exact h3, h4, h5, h6, h7, by rw [he]; exact h8, h9⟩
theorem tz_.kept {C n d : String} {A : Nat → Prop} {U : State} {H H1 : Heap} (h : tz_ C n d A U H) (hq : ∀ a : Nat, a < H.size → ¬ A a → H1[a]? = H[a]?) : tz_ C n d A U H1 := by
  obtain ⟨c, kf, i, f, a, cell, r, h0, h1, h2, h3, h4, h5, h6, h7, h8, h9, h10⟩ := h
  exact ⟨c, kf, i, f, a, cell, r, h0, h1, h2, h3, by rw [hq a (Array.getElem?_eq_some_iff.mp h4).1 h10]; exact h4, h5, h6, h7, h8, h9, h10⟩
theorem tz_.narrow {C n d : String} {A B : Nat → Prop} {U : State} {H : Heap} (h : tz_ C n d A U H) (hAB : ∀ q, B q → A q) : tz_ C n d B U H := by
  obtain ⟨c, kf, i, f, a, cell, r, h0, h1, h2, h3, h4, h5, h6, h7, h8, h9, h10⟩ := h
  exact ⟨c, kf, i, f, a, cell, r, h0, h1, h2, h3, h4, h5, h6, h7, h8, h9, fun z => h10 (hAB a z)⟩
/-- what is known all through a run -/
def KK_ (k : kc_T) (G : gx_T) (U : State) (H : Heap) : Prop :=
  va_K G.1 cl_A (tg_ G) U ∧ (∀ (i : Nat) (q : String × String × String), st_L[i]? = some q → va_Z q.1 q.2.1 q.2.2 (k_st k i) (ax_ k) U H) ∧
  (∀ a o, k_ro k a = some o → ro_ok k a o U H) ∧ (G.2.2 U ∧ NX_ U ∧ ∀ (i : Nat) (q : String × Nat × String), sr_L[i]? = some q → ∃ a, k_st k (100 + i) = .ref a ∧ vk_R q.1 q.2.1 q.2.2 a U) ∧ (∀ s U : State, s.WarmedH U.vm → G.2.2 s → G.2.2 U) ∧ (tz_ "java/lang/Throwable" "UNASSIGNED_STACK" "[Ljava/lang/StackTraceElement;" (ax_ k) U H ∧ tz_ "java/lang/Throwable" "SUPPRESSED_SENTINEL" "Ljava/util/List;" (ax_ k) U H)
theorem ro_moved {k : kc_T} {a : Nat} {o : ob_T} {u U : State} {H : Heap} (hvm : u.vm.Alike U.vm) (h : ro_ok k a o u H) : ro_ok k a o U H := by
  rcases o with ⟨t, n, f | f | f | f | f⟩ | ⟨ci, fs⟩
  · exact va_T.moved hvm h
  · exact h
  · exact h
  · exact h
  · exact va_T.moved hvm h
  · refine ⟨va_O.moved hvm h.1, fun e => ?_⟩
    obtain ⟨v, h1, h2, h3⟩ := h.2 e
    exact ⟨v, h1, va_OF.moved hvm h2, va_OF.moved hvm h3⟩
theorem ro_kept {k : kc_T} {a : Nat} {o : ob_T} {U : State} {H H1 : Heap} (h : ro_ok k a o U H) (hq : ∀ a : Nat, a < H.size → ¬ ax_ k a → H1[a]? = H[a]?) : ro_ok k a o U H1 := by
  rcases o with ⟨t, n, f | f | f | f | f⟩ | ⟨ci, fs⟩
  · exact va_T.kept h hq
  · exact h
  · exact h
  · exact h
  · exact va_T.kept h hq
  · refine ⟨va_O.kept h.1 hq, fun e => ?_⟩
    obtain ⟨v, h1, h2, h3⟩ := h.2 e
    exact ⟨v, h1, va_OF.kept h2 hq, va_OF.kept h3 hq⟩
theorem KK_moved {k : kc_T} {G : gx_T} {u U : State} {H : Heap} (hW : u.WarmedH U.vm) (h : KK_ k G u H) : KK_ k G U H :=
  ⟨va_K.moved hW.alike h.1, fun i q hq => va_Z.moved hW.alike (h.2.1 i q hq), fun a o ho => ro_moved hW.alike (h.2.2.1 a o ho), ⟨h.2.2.2.2.1 u U hW h.2.2.2.1.1, NX_moved hW h.2.2.2.1.2.1, fun i q hq => by
    obtain ⟨a, e1, e2⟩ := h.2.2.2.1.2.2 i q hq
    exact ⟨a, e1, e2.warm hW⟩⟩, h.2.2.2.2.1, h.2.2.2.2.2.1.moved hW.alike, h.2.2.2.2.2.2.moved hW.alike⟩
theorem KK_kept {k : kc_T} {G : gx_T} {U : State} {H H1 : Heap} (h : KK_ k G U H) (hq : ∀ a : Nat, a < H.size → ¬ ax_ k a → H1[a]? = H[a]?) : KK_ k G U H1 :=
  ⟨h.1, fun i q hh => va_Z.kept (h.2.1 i q hh) hq, fun a o ho => ro_kept (h.2.2.1 a o ho) hq, h.2.2.2.1, h.2.2.2.2.1, h.2.2.2.2.2.1.kept hq, h.2.2.2.2.2.2.kept hq⟩
/-- what holds now, in a method's run from s -/
def nw_ (k : kc_T) (G : gx_T) (s : State) (h0 h : hp_T) (H : Heap) (locs : List Loc) : Prop := hp_ok k G h H ∧ va_S (ax_ k) s.heap H locs ∧ h_sl h0 ≤ h_sl h
theorem nw_.KK {k : kc_T} {G : gx_T} {s U : State} {h0 h : hp_T} {H : Heap} {locs : List Loc} (N : nw_ k G s h0 h H locs) (K : KK_ k G s s.heap) (hU : U.heap = H) (hW : s.WarmedH U.vm) : KK_ k G U U.heap := by
  rw [hU]
  exact KK_kept (KK_moved hW K) N.2.1.2.1
/-- the world of one abstract cell -/
theorem hp_at {k : kc_T} {G : gx_T} {h : hp_T} {H : Heap} (O : hp_ok k G h H) {a : Nat} {o : ob_T} (ho : h.1 a = some o) : va_P G.1 cl_A [(a, cv_ G o)] H := by
  intro i q hq
  have hz : i < 1 := (List.getElem?_eq_some_iff.mp hq).1
  rw [show i = 0 by omega] at hq
  cases hq
  exact (O.2.2 a o ho).2
/-- a cell is written -/
def st_ (h : hp_T) (a : Nat) (o : ob_T) : hp_T := (fun q => if q = a then some o else h.1 q, h.2)
theorem hp_set {k : kc_T} {G : gx_T} {h : hp_T} {H H1 : Heap} {a : Nat} {o : ob_T} (O : hp_ok k G h H) (hb : ax_ k a) (hz : H1.size = H.size) (oq : ∀ q : Nat, q ≠ a → H1[q]? = H[q]?) (hc : va_at G.1 cl_A (a, cv_ G o) H1) : hp_ok k G (st_ h a o) H1 := by
  refine ⟨by rw [hz]; exact O.1, by rw [hz]; exact O.2.1, fun b o' ho => ?_⟩
  by_cases e : b = a
  · subst e
    simp only [st_, if_pos] at ho
    cases ho
    exact ⟨hb, hc⟩
  · simp only [st_, if_neg e] at ho
    exact ⟨(O.2.2 b o' ho).1, (O.2.2 b o' ho).2.kept (oq b e)⟩
/-- a cell is made -/
def mk_ (h : hp_T) (o : ob_T) (n : Nat) : hp_T := (fun q => if q = h_sz h then some o else h.1 q, h_sz h + 1, h_sl h + n)
theorem hp_push {k : kc_T} {G : gx_T} {h : hp_T} {H H1 : Heap} {o : ob_T} {n : Nat} (O : hp_ok k G h H) (hlim : h_sz h + 1 ≤ k_lc k ∧ h_sl h + n ≤ k_ls k) (hz : H1.size = H.size + 1) (oq : ∀ q : Nat, q < H.size → H1[q]? = H[q]?) (hc : va_at G.1 cl_A (h_sz h, cv_ G o) H1) : hp_ok k G (mk_ h o n) H1 := by
  refine ⟨by show h_sz h + 1 = _; rw [hz, O.1], ⟨fun q hq => O.2.1.1 q (by omega), hlim.1, hlim.2⟩, fun b o' ho => ?_⟩
  by_cases e : b = h_sz h
  · subst e
    simp only [mk_, if_pos] at ho
    cases ho
    exact ⟨O.2.1.1 _ (Nat.le_of_eq O.1.symm), hc⟩
  · simp only [mk_, if_neg e] at ho
    have h1 := O.2.2 b o' ho
    exact ⟨h1.1, h1.2.kept (oq b h1.2.lt)⟩
theorem va_S_push {A : Nat → Prop} {H0 H H1 : Heap} {locs : List Loc} (h : va_S A H0 H locs) (z : H1.size = H.size + 1) (oq : ∀ q : Nat, q < H.size → H1[q]? = H[q]?) : va_S A H0 H1 locs :=
  ⟨Nat.le_trans h.1 (by omega), fun q h1 h2 => (oq q (Nat.lt_of_lt_of_le h1 h.1)).trans (h.2.1 q h1 h2), h.2.2⟩
