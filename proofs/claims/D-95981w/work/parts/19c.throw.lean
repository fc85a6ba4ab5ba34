set_option maxRecDepth 100000
/-! thrown exceptions: contracts, how they leave a method, handlers -/
/-- what is known of a thrown object -/
def tk_ (E : String) (st : State) (oc : Outcome) (t : State) : Prop := ∀ x : Addr, oc = .threw x → ∃ cell : Cell, t.heap[x]? = some cell ∧ cell.vm.isStatics = false ∧ st.vm.findClass E = some cell.cls
def qe_ (E : String) (k : kc_T) (G : gx_T) (h0 : hp_T) (o : Outcome) (h' : hp_T) : Array Value → State → Outcome → State → Prop := fun a st oc t => qo_ k G h0 o h' a st oc t ∧ tk_ E st oc t
/-- the method y, called with av on the heap h, ends with the outcome o (what it throws is of class E) and leaves the heap h' -/
def ctE_ (E : String) (l : Launch) (y : MethodName) (ws : List Cond) (fr lo : Nat) (k : kc_T) (G : gx_T) (av : List Value) (h : hp_T) (o : Outcome) (h' : hp_T) : Prop :=
  NM_ l y ws (rm_ k h fr lo) (cp_ k G av h) (qe_ E k G h o h')
abbrev me_ (E : String) (below : List Frame) (k : kc_T) (G : gx_T) (h0 : hp_T) (o : Outcome) (h' : hp_T) (args : Array Value) (s : State) : State → Prop := fun t => ∃ oc, t.status = .running ∧ Ended t below oc ∧ qe_ E k G h0 o h' args s oc t
theorem mq_me {E : String} {below : List Frame} {k : kc_T} {G : gx_T} {h0 : hp_T} {v : Option Value} {h' : hp_T} {args : Array Value} {s t : State} (h : mq_ below k G h0 v h' args s t) : me_ E below k G h0 (.returned v) h' args s t := by
  obtain ⟨oc, h1, h2, h3⟩ := mq_mt h
  refine ⟨oc, h1, h2, h3, fun x e => ?_⟩
  have := h3.1
  rw [e] at this
  cases this
/-- what a method that may throw ends with -/
def oI_ (r : Nat ⊕ Int32) : Outcome := match r with
  | .inl a => .threw a
  | .inr v => .returned (some (.int v))
def oR_ (r : Nat ⊕ Option Nat) : Outcome := match r with
  | .inl a => .threw a
  | .inr v => .returned (some (va_rf v))
def oU_ (r : Nat ⊕ Unit) : Outcome := match r with
  | .inl a => .threw a
  | .inr _ => .returned none
/-- goes on behind a call that may throw, if it returned -/
def bx_ {α β : Type} (x : Option ((Nat ⊕ α) × hp_T)) (f : α → hp_T → Option ((Nat ⊕ β) × hp_T)) : Option ((Nat ⊕ β) × hp_T) := match x with
  | none => none
  | some (.inl a, h) => some (.inl a, h)
  | some (.inr v, h) => f v h
theorem bx_some {α β : Type} {x : Option ((Nat ⊕ α) × hp_T)} {f : α → hp_T → Option ((Nat ⊕ β) × hp_T)} {r : Nat ⊕ β} {h9 : hp_T} (e : bx_ x f = some (r, h9)) :
    (∃ a, x = some (.inl a, h9) ∧ r = .inl a) ∨ ∃ v h, x = some (.inr v, h) ∧ f v h = some (r, h9) := by
  match x, e with
  | some (.inl a, h), e => cases e; exact Or.inl ⟨a, rfl, rfl⟩
  | some (.inr v, h), e => exact Or.inr ⟨v, h, rfl, e⟩
/-- goes on behind a call that may throw, either way -/
def bc_ {α β : Type} (x : Option ((Nat ⊕ α) × hp_T)) (f : α → hp_T → Option β) (g : Nat → hp_T → Option β) : Option β := match x with
  | none => none
  | some (.inl a, h) => g a h
  | some (.inr v, h) => f v h
theorem bc_some {α β : Type} {x : Option ((Nat ⊕ α) × hp_T)} {f : α → hp_T → Option β} {g : Nat → hp_T → Option β} {r : β} (e : bc_ x f g = some r) :
    (∃ a h, x = some (.inl a, h) ∧ g a h = some r) ∨ ∃ v h, x = some (.inr v, h) ∧ f v h = some r := by
  match x, e with
  | some (.inl a, h), e => exact Or.inl ⟨a, h, rfl, e⟩
  | some (.inr v, h), e => exact Or.inr ⟨v, h, rfl, e⟩
theorem ctE_of {E : String} {l : Launch} {y : MethodName} {fr lo : Nat} {k : kc_T} {G : gx_T} {av : List Value} {h0 : hp_T} {o : Outcome} {h' : hp_T} {cc : ByteArray} {maxL : Nat} {ret : Option FieldType} (hy : plainFor y = true) (hlen : (lg_sl av).length ≤ maxL)
    (body : ∀ p e s m below meth c ls, cx_ p l (rm_ k h0 fr lo) s m av.toArray meth c cc maxL ret y.cls k G h0 fr lo → meth.name = y.name → c.exceptionTable.toList = [] → nw_ k G s h0 h0 s.heap [] → lv_has ls maxL (lv_args 0 av) →
      W p l e (rm_ k h0 fr lo) s m av.toArray below meth c s.heap [] (h_sz h0 - h_sz h0) (h_sl h0 - h_sl h0) (me_ E below k G h0 o h' av.toArray s) (F0 m 0 ls [])) : ctE_ E l y (ws_ y cc maxL ret) fr lo k G av h0 o h' := by
  refine NM_ofW (cc := cc) (maxL := maxL) (ret := ret) hy ws_is ?_
  intro p e s m args below meth c hx hb hml hr hlocks hcode hname hmeth hpre hv
  obtain ⟨rfl, hO, K⟩ := hv
  have hts0 := atoms_spec (ws := ws_ y cc maxL ret) hpre
  have hts : ∀ w ∈ lw_all, w.before _ s = true := fun w h => hts0 w (List.mem_cons_of_mem _ h)
  obtain ⟨meth', c', g1, g2, -, -, -, -, hem, -⟩ := Cond.code_spec hname (hts0 _ List.mem_cons_self)
  cases hmeth.symm.trans g1
  cases hcode.symm.trans g2
  have hem : c.exceptionTable.toList = [] := by rw [Array.isEmpty_iff.mp hem]
  have hl := lv_entry av (n := maxL) hlen
  have b := body p e s m below meth c _ ⟨hx, hb, hml, hr, hlocks, findClass_of_methodNamed hname, hts, K, hO.1, rfl⟩ (name_of_methodNamed hname hmeth).1 hem ⟨hO, va_S.rf, Nat.le_refl _⟩ hl
  rw [Nat.sub_self, Nat.sub_self] at b
  rw [lg_entry_eq]
  exact b
section TH
variable {p : Program} {l : Launch} {e : Env} {R : Room} {s : State} {m : MethodId} {args : Array Value} {below : List Frame} {meth : Method} {c : Code} {H : Heap} {locs : List Loc} {Q : State → Prop}
variable {cc : ByteArray} {nL : Nat} {ret : Option FieldType} {own : String} {k : kc_T} {G : gx_T} {h0 h h' : hp_T} {fr lo : Nat} {pc : Nat} {ls : Array Slot} {rest : List Value}
variable {y : MethodName} {bytes : ByteArray} {maxL index fr' lo' : Nat} {r0 : Option FieldType} {As : List Value} {a0 b : Nat} {E : String}
/-- a thrown object leaves the method -/
theorem th_leave (C : cx_ p l R s m args meth c cc nL ret own k G h0 fr lo) (N : nw_ k G s h0 h H locs) (hem : c.exceptionTable.toList = []) (ha : ∃ cell : Cell, H[a0]? = some cell ∧ cell.vm.isStatics = false ∧ s.vm.findClass E = some cell.cls) {T : State} (hT : T.heap = H) (X : Stand p l e R s m args below meth c T locs (h_sz h - h_sz h0) (h_sl h - h_sl h0))
    {g : JFrame} (hg : g.method = m) (hl : g.locked = none) (hen : g.entered = []) : ∃ t, Steps p.tables e below ((T.setTop g).pushFrame (.throwing a0)) t ∧ me_ E below k G h0 (.threw a0) h args s t := by
  obtain ⟨st, hrun, hend, hW, hsame⟩ := X.leaveThrown a0 hg hl hen (by rw [hem]; intro x hx; cases hx) C.2.2.2.2.1
  have ht : (T.setFrames (.throwing a0 :: below)).heap = H := hT
  refine ⟨_, st, _, hrun, hend, ⟨rfl, by rw [ht]; exact N.1, N.2.1.F ht, N.2.2, hW, locs, hsame, N.2.1.2.2⟩, fun x e => ?_⟩
  cases e
  rw [ht]
  exact ha
/-- athrow of an object that is known -/
theorem r_athrow (C : cx_ p l R s m args meth c cc nL ret own k G h0 fr lo) (N : nw_ k G s h0 h H locs) (hem : c.exceptionTable.toList = []) {ci : Nat} (hcl : cls_ k h (some a0) = some ci) (hcn : cn_ ci = E) (hdg : decode cc pc = .ok (.athrow, 1)) :
    W p l e R s m args below meth c H locs (h_sz h - h_sz h0) (h_sl h - h_sl h0) (me_ E below k G h0 (.threw a0) h args s) (F0 m pc ls (.ref a0 :: rest)) := by
  intro T hT X
  obtain ⟨cell, g1, g2, g3⟩ := recv_ N C.2.2.2.2.2.2.2.1 hcl
  rw [hcn] at g3
  obtain ⟨st, hrun, hend, hW, hsame⟩ := X.athrowLeaves C.1 (g := F0 m pc ls (.ref a0 :: rest)) rfl rfl rfl (by rw [hem]; intro x hx; cases hx) rfl (by rw [C.2.1]; exact hdg) C.2.2.2.2.1
  have ht : (T.setFrames (.throwing a0 :: below)).heap = H := hT
  refine ⟨_, st, _, hrun, hend, ⟨rfl, by rw [ht]; exact N.1, N.2.1.F ht, N.2.2, hW, locs, hsame, N.2.1.2.2⟩, fun x e => ?_⟩
  cases e
  rw [ht]
  exact ⟨cell, g1, g2, g3⟩
/-- behind a call that threw a0: the note lies over the caller's frame -/
abbrev RT_ (p : Program) (l : Launch) (e : Env) (R : Room) (s : State) (m : MethodId) (args : Array Value) (below : List Frame) (meth : Method) (c : Code) (H : Heap) (locs : List Loc) (k : kc_T) (G : gx_T) (h0 h h' : hp_T) (E : String) (a0 pc : Nat) (ls : Array Slot) (st0 rest : List Value) : Prop :=
  ∀ T : State, T.heap = H → Stand p l e R s m args below meth c T locs (h_sz h - h_sz h0) (h_sl h - h_sl h0) →
    ∃ (T' : State) (locs' : List Loc), Stand p l e R s m args below meth c T' locs' (h_sz h' - h_sz h0) (h_sl h' - h_sl h0) ∧ nw_ k G s h0 h' T'.heap locs' ∧
      (∃ cell : Cell, T'.heap[a0]? = some cell ∧ cell.vm.isStatics = false ∧ s.vm.findClass E = some cell.cls) ∧
      ∀ target, Steps p.tables e below ((T'.setTop (F0 m pc ls rest)).pushFrame (.throwing a0)) target → Steps p.tables e below (T.setTop (F0 m pc ls st0)) target
/-- nothing catches it here -/
theorem th_prop (C : cx_ p l R s m args meth c cc nL ret own k G h0 fr lo) (hem : c.exceptionTable.toList = []) {st0 : List Value} (hr : RT_ p l e R s m args below meth c H locs k G h0 h h' E a0 pc ls st0 rest) :
    W p l e R s m args below meth c H locs (h_sz h - h_sz h0) (h_sl h - h_sl h0) (me_ E below k G h0 (.threw a0) h' args s) (F0 m pc ls st0) := by
  intro T hT X
  obtain ⟨T', locs', X', N', hc, st⟩ := hr T hT X
  obtain ⟨t, h1, h2⟩ := th_leave C N' hem hc rfl X' (g := F0 m pc ls rest) rfl rfl rfl
  exact ⟨t, st t h1, h2⟩
/-- the callee's end, from its call -/
theorem bt_ct (C : cx_ p l R s m args meth c cc nL ret own k G h0 fr lo) (N : nw_ k G s h0 h H locs) {len : Nat} {av : List Value} (hM : ctE_ E l y (ws_ y bytes maxL r0) fr' lo' k G av h (.threw a0) h') (q5 : Cond.code y bytes maxL r0 ∈ lw_all) (hR : fr' + 1 ≤ fr ∧ 8 + (maxL + 11) + lo' ≤ lo)
    {T : State} (hT : T.heap = H) {vm₁ : Vm} (X : Stand p l e R s m args below meth c (T.setVm vm₁) locs (h_sz h - h_sz h0) (h_sl h - h_sl h0)) {g : JFrame} (hg : g.method = m) (hsize : g.locals.size = c.maxLocals) {ig : Instr} (hdg : decode c.code g.pc = .ok (ig, len)) (hW : 2 * g.monitorRoom + (g.stack.map fun v => v.category).sum ≤ 8) {mk : MethodId} (hn : (T.setVm vm₁).methodNamed? y = some mk) :
    ∃ (T' : State) (locs' : List Loc), Stand p l e R s m args below meth c T' locs' (h_sz h' - h_sz h0) (h_sl h' - h_sl h0) ∧ nw_ k G s h0 h' T'.heap locs' ∧
      (∃ cell : Cell, T'.heap[a0]? = some cell ∧ cell.vm.isStatics = false ∧ s.vm.findClass E = some cell.cls) ∧
      Steps p.tables e below (doInvoke e ((T.setVm vm₁).setTop g) [] mk av.toArray).1 ((T'.setTop g).pushFrame (.throwing a0)) := by
  have hC := C
  obtain ⟨hx, hb, hml, -, -, hown, hts, K, hs0, rfl⟩ := C
  obtain ⟨hp1, hp2, hp3⟩ := pre_ct (fr' := fr') (lo' := lo') hC N hT (av := av) vm₁ X.warmed
  have hws := pay_in hts (lw_meth q5)
  obtain ⟨o, s₂, hsteps, hrun, hend, hq, htk⟩ := NM_steps (bytes := bytes) (maxL := maxL) (ret := r0) hM X hg hsize hdg hW hn (Or.inl (hws _ List.mem_cons_self _ _ X.warmed)) hR.1 hR.2 hp1 hp2 (atoms_intro fun w hw => hws w hw _ _ X.warmed) (cp_blind _ _ _ _ hp3)
  obtain ⟨rfl, q1, q2, q3, hW₂, L, hsm, hL⟩ := hq
  have hA : At (T.setVm vm₁) g.method c below := by rw [hg]; exact X.here
  obtain ⟨e2, g2, g3, g4, g5, g6⟩ := id hsm
  have e3 : s₂ = ({ ((T.setVm vm₁).calling g mk av.toArray).setFrames s₂.frames with heap := s₂.heap, slotsUsed := s₂.slotsUsed } : State).setVm s₂.vm := by
    have : s₂ = ({ s₂ with vm := ((T.setVm vm₁).calling g mk av.toArray).vm } : State).setVm s₂.vm := rfl
    rw [e2] at this
    exact this
  have hf₂ : s₂.frames = .throwing a0 :: .java g :: (T.setVm vm₁).frames.tail := hend
  have hW' : (T.setVm vm₁).WarmedH s₂.vm := hW₂
  obtain ⟨g₀, hg0⟩ := Option.isSome_iff_exists.mp hA.top
  obtain ⟨r, hr⟩ := State.topJava?_eq_some.mp hg0
  have hr' : (({ T.setVm vm₁ with heap := s₂.heap, slotsUsed := s₂.slotsUsed } : State).setVm s₂.vm).frames = .java g₀ :: r := hr
  have hs₂ : s₂ = ((({ T.setVm vm₁ with heap := s₂.heap, slotsUsed := s₂.slotsUsed } : State).setVm s₂.vm).setTop g).pushFrame (.throwing a0) := by
    refine e3.trans ?_
    rw [State.pushFrame, State.frames_setTop _ hr', State.setTop_of_frames _ hr', State.setFrames_setFrames, hf₂, State.calling_eq hA.top, State.setFrames_setFrames, hr]
    rfl
  have hsame : (T.setVm vm₁).sameButNew ({ T.setVm vm₁ with heap := s₂.heap, slotsUsed := s₂.slotsUsed } : State) L (h_sz h' - h_sz h) (h_sl h' - h_sl h) := by
    refine ⟨?_, g2, g3, g4, g5, g6⟩
    obtain ⟨t, ht, -⟩ := State.frames_cons hr
    show ({ T.setVm vm₁ with heap := s₂.heap, slotsUsed := s₂.slotsUsed } : State) = { (T.setVm vm₁).setFrames (T.setVm vm₁).frames with heap := s₂.heap, slotsUsed := s₂.slotsUsed }
    rw [State.setFrames_self ht]
  have e0 : ((T.setVm vm₁).calling g mk av.toArray).heap = H := hT
  have hS : va_S (ax_ k) s.heap s₂.heap (locs ++ L) := by
    refine ⟨?_, fun q h1 h2 => ?_, fun q hq => ?_⟩
    · exact Nat.le_trans N.2.1.1 (by have := q2.1; rw [e0] at this; exact this)
    · rw [q2.2 q (by rw [e0]; exact Nat.lt_of_lt_of_le h1 N.2.1.1) h2, e0]
      exact N.2.1.2.1 q h1 h2
    · rcases List.mem_append.mp hq with z | z
      · exact N.2.1.2.2 q z
      · exact hL q z
  have hz : h_sz h ≤ h_sz h' := by
    have h1 := q2.1
    rw [e0] at h1
    have h2 := N.1.1
    have h3 := q1.1
    omega
  have hz0 : h_sz h0 ≤ h_sz h := by
    have h1 := N.2.1.1
    have h2 := N.1.1
    omega
  have hsl := N.2.2
  subst hg
  have X' : Stand p l e _ s g.method args below meth c (({ T.setVm vm₁ with heap := s₂.heap, slotsUsed := s₂.slotsUsed } : State).setVm s₂.vm) (locs ++ L) (h_sz h - h_sz h0 + (h_sz h' - h_sz h)) (h_sl h - h_sl h0 + (h_sl h' - h_sl h)) :=
    ⟨X.admits, X.cas, X.clock, X.frames, X.room, X.hears, X.method, X.code, (X.here.setHeapUsed s₂.heap s₂.slotsUsed).setVm hW'.alike, X.tail, State.WarmedH.trans X.warmed hW', X.limits, X.bytes, X.same.trans (hsame.setVm s.vm)⟩
  rw [show h_sz h - h_sz h0 + (h_sz h' - h_sz h) = h_sz h' - h_sz h0 by omega, show h_sl h - h_sl h0 + (h_sl h' - h_sl h) = h_sl h' - h_sl h0 by omega] at X'
  obtain ⟨cell, t1, t2, t3⟩ := htk a0 rfl
  refine ⟨_, locs ++ L, X', ⟨q1, hS, Nat.le_trans hsl q3⟩, ⟨cell, t1, t2, ?_⟩, ?_⟩
  · rw [← X.warmed.alike.findClass]
    exact t3
  · rw [← hs₂]
    exact hsteps
/-- a call through an object, that threw -/
theorem run_VT (C : cx_ p l R s m args meth c cc nL ret own k G h0 fr lo) (N : nw_ k G s h0 h H locs) {ci : Nat} (hM : ctE_ E l y (ws_ y bytes maxL r0) fr' lo' k G (.ref b :: As) h (.threw a0) h') (hcl : cls_ k h (some b) = some ci) (hcn : cn_ ci = y.cls)
    (q1 : Cond.methodLink own index y ∈ lw_all) (q2 : Cond.instanceMethod y ∈ lw_all) (q3 : Cond.selects y.cls y y ∈ lw_all) (q5 : Cond.code y bytes maxL r0 ∈ lw_all)
    {n : Nat} (hn : As.length = n) (hd : y.cls ≠ "java/lang/invoke/MethodHandle" ∧ y.cls ≠ "java/lang/invoke/VarHandle" ∧ (parseMethodDescriptor y.desc).map (fun d => d.parameters.length) = some n) (hR : fr' + 1 ≤ fr ∧ 8 + (maxL + 11) + lo' ≤ lo) (hsize : ls.size = nL) (hW : (rest.map fun v => v.category).sum ≤ 8) (hdg : decode cc pc = .ok (.invokevirtual index, 3)) :
    RT_ p l e R s m args below meth c H locs k G h0 h h' E a0 pc ls (As.reverse ++ .ref b :: rest) rest := by
  have hC := C
  obtain ⟨hx, hb, hml, -, -, hown, hts, K, hs0, -⟩ := C
  obtain ⟨cellB, hcB, hoB, hclB⟩ := recv_ N K hcl
  rw [hcn] at hclB
  intro T hT X
  obtain ⟨mk, methM, hnamed, hmethM, hstM, habM⟩ := Cond.instanceMethod_spec (hts _ q2)
  obtain ⟨methM', cM, hmethM', -, -, -, -, -, -, hsigM⟩ := Cond.code_spec hnamed (hts _ q5)
  cases hmethM.symm.trans hmethM'
  obtain ⟨c2, r2, m2, z1, z2, z3, z4, kP, hkP, hkPi⟩ := Cond.selects_spec (hts _ q3)
  cases hclB.symm.trans z1
  cases (State.methodFound?_of_named hnamed ⟨hd.1, hd.2.1⟩).symm.trans z2
  cases hnamed.symm.trans z3
  have hselP : selectMethod e.platform s.vm cellB.cls mk = .method mk := by rw [Launch.admits_selectMethod X.admits]; exact z4
  obtain ⟨vm₁, X₁, hstep₁⟩ := X.invokevirtual hx hown (hts _ q1) hnamed hmethM hstM hkP hkPi ⟨hd.1, hd.2.1⟩ (a := b) (cell := cellB) (by rw [hT]; exact hcB)
    (fun z hz => by rw [hz] at hoB; cases hoB) hselP hmethM habM hkP hkPi (g := F0 m pc ls (As.reverse ++ .ref b :: rest)) rfl (argsL := As) (rest := rest) (by have h2 := hd.2.2; rw [hsigM] at h2; exact hn.trans (Option.some.inj h2).symm) rfl (by rw [hb]; exact hdg)
  obtain ⟨T', locs', X', N', hc, st⟩ := bt_ct (len := 3) (ig := .invokevirtual index) hC N hM q5 hR hT X₁ (g := F0 m pc ls rest) rfl (hsize.trans hml.symm) (by rw [hb]; exact hdg) (lv_room hW) (X₁.named hnamed)
  exact ⟨T', locs', X', N', hc, fun target h9 => hstep₁ _ fun acts => by rw [doInvoke_state]; exact st.trans h9⟩
/-- a static call that threw -/
theorem run_ST (C : cx_ p l R s m args meth c cc nL ret own k G h0 fr lo) (N : nw_ k G s h0 h H locs) (hM : ctE_ E l y (ws_ y bytes maxL r0) fr' lo' k G As h (.threw a0) h')
    (q1 : Cond.methodLink own index y ∈ lw_all) (q2 : Cond.static y ∈ lw_all) (q4 : Cond.initialized y.cls ∈ lw_all) (q5 : Cond.code y bytes maxL r0 ∈ lw_all)
    {n : Nat} (hn : As.length = n) (hd : y.cls ≠ "java/lang/invoke/MethodHandle" ∧ y.cls ≠ "java/lang/invoke/VarHandle" ∧ (parseMethodDescriptor y.desc).map (fun d => d.parameters.length) = some n) (hR : fr' + 1 ≤ fr ∧ 8 + (maxL + 11) + lo' ≤ lo) (hsize : ls.size = nL) (hW : (rest.map fun v => v.category).sum ≤ 8) (hdg : decode cc pc = .ok (.invokestatic index, 3)) :
    RT_ p l e R s m args below meth c H locs k G h0 h h' E a0 pc ls (As.reverse ++ rest) rest := by
  have hC := C
  obtain ⟨hx, hb, hml, -, -, hown, hts, K, hs0, -⟩ := C
  intro T hT X
  obtain ⟨mk, hnamed⟩ := Cond.code_named (hts _ q5)
  obtain ⟨methM, cM, hmethM, -, -, -, -, -, -, hsigM⟩ := Cond.code_spec hnamed (hts _ q5)
  have hstatic : methM.isStatic = true := Cond.static_spec hnamed hmethM (hts _ q2)
  obtain ⟨kP, hkP, -⟩ := className_of_methodNamed hnamed
  have hinitP : kP.init = .initialized := Cond.initialized_spec (findClass_of_methodNamed hnamed) hkP (hts _ q4)
  obtain ⟨vm₁, X₁, hstep₁⟩ := X.invokestatic hx hown (hts _ q1) hnamed hmethM hstatic hkP hinitP ⟨hd.1, hd.2.1⟩ (g := F0 m pc ls (As.reverse ++ rest)) rfl (argsL := As) (rest := rest) (by have h2 := hd.2.2; rw [hsigM] at h2; exact hn.trans (Option.some.inj h2).symm) rfl (by rw [hb]; exact hdg)
  obtain ⟨T', locs', X', N', hc, st⟩ := bt_ct (len := 3) (ig := .invokestatic index) hC N hM q5 hR hT X₁ (g := F0 m pc ls rest) rfl (hsize.trans hml.symm) (by rw [hb]; exact hdg) (lv_room hW) (X₁.named hnamed)
  exact ⟨T', locs', X', N', hc, fun target h9 => hstep₁ _ fun acts => by rw [doInvoke_state]; exact st.trans h9⟩
end TH
/-! the method's own handler -/
/-- what the search for a handler gives, and the tables that it leaves -/
def fi_ (e : Env) (s : State) (f : JFrame) (a : Addr) (h : Handler) (vm' : Vm) : Prop :=
  ∀ (Q : Handler → Pre) (E : CtlPost) (d : Bool) (acts : List Action), wp (findHandler f a) Q E e d acts s ↔ Q h d acts (s.setVm vm')
theorem fi_one {e : Env} {s : State} {f : JFrame} {a : Addr} {meth : Method} {code : Code} (hm : s.vm.method? f.method = some meth) (hc : meth.code = some code)
    {x : ExceptionTableEntry} (hone : code.exceptionTable.toList = [x]) (hx : covers x f.pc = true) (h0 : x.catchType ≠ 0) {c : ClassId} {cell : Cell}
    (hl : s.vm.ClassLinks e.platform f.method.cls x.catchType c) (hcell : s.heap[a]? = some cell) (hobj : ∀ k, cell.vm ≠ .statics k)
    (hcl : ∃ k, s.vm.classes[c]? = some k) (hsame : cell.cls = c) : fi_ e s f a (.found x.handlerPc) (s.vm.noted f.method.cls x.catchType (.cls c)) := by
  intro Q E d acts
  rw [W.findHandler_eq hm hc, hone]
  simp only [covers] at hx
  obtain ⟨ha, ht⟩ := (resolveClass_links e.toSetting hl).op (op := VmOp.resolveClass f.method.cls x.catchType) rfl
  have hal : s.vm.Alike (s.vm.noted f.method.cls x.catchType (.cls c)) := (Vm.Alike.refl s.vm).noted _ _ _
  obtain ⟨k2, hk2⟩ := hcl
  obtain ⟨k2', hk2', -⟩ := hal.2.2 _ _ hk2
  subst hsame
  have hfit : (s.vm.noted f.method.cls x.catchType (.cls cell.cls)).assignable cell.cls cell.cls = true := by
    show Vm.assignableAux _ (255 + 1) cell.cls cell.cls = true
    rw [Vm.assignableAux]
    simp
  simp [findHandler.go, hx, h0, ha, ht, hcell, hobj, hk2', hfit, VmOp.dirties, VmOp.acts]
theorem fi_step {e : Env} {s : State} {a : Addr} {f : JFrame} {r : List Frame} {pc : Nat} {vm' : Vm} (hfind : fi_ e s f a (.found pc) vm') :
    (stepThrowing e s a (.java f :: r)).Is ((s.setVm vm').setFrames (.java { f with pc := pc, stack := [.ref a] } :: r)) [] := by
  simp only [stepThrowing, searchFrame, vmDo]
  generalize hr : Sem.go _ e false [] s = res
  obtain ⟨as, rfl, ha⟩ := Sem.eq_ok_of hr (a := Handler.found pc) (s' := s.setVm vm') (acts' := []) (by simp [hfind _ _ _ _])
  exact ⟨rfl, ha⟩
theorem fi_frames (u : State) (vm' : Vm) (F G : List Frame) : ((u.setFrames F).setVm vm').setFrames G = (u.setVm vm').setFrames G := by
  have h1 : (u.setFrames F).setVm vm' = (u.setVm vm').setFrames F := rfl
  rw [h1, State.setFrames_setFrames]
theorem fi_caught {tb : Tables} {e : Env} {s target : State} {g : JFrame} {c : Code} {below : List Frame} {a : Addr} (h : At s g.method c below) {pc : Nat} {vm' : Vm}
    (hfind : fi_ e ((s.setTop g).pushFrame (.throwing a)) g a (.found pc) vm') (hrest : Steps tb e below ((s.setVm vm').setTop { g with pc := pc, stack := [.ref a] }) target) :
    Steps tb e below ((s.setTop g).pushFrame (.throwing a)) target := by
  obtain ⟨hgo, hw⟩ := h.throwing a
  refine Steps.head hgo hw ?_
  rw [stepThread_throwing (frames_entered h.top _), (fi_step (s := (s.setTop g).pushFrame (.throwing a)) hfind).1]
  obtain ⟨g₀, hg⟩ := Option.isSome_iff_exists.mp h.top
  obtain ⟨r, hr⟩ := State.topJava?_eq_some.mp hg
  have hr' : (s.setVm vm').frames = .java g₀ :: r := hr
  rw [State.setTop_of_frames _ hr'] at hrest
  rw [hr, List.tail_cons, State.pushFrame, fi_frames, State.setTop_of_frames _ hr, fi_frames]
  exact hrest
section TC
variable {p : Program} {l : Launch} {e : Env} {R : Room} {s : State} {m : MethodId} {args : Array Value} {below : List Frame} {meth : Method} {c : Code} {H : Heap} {locs : List Loc} {Q : State → Prop}
variable {cc : ByteArray} {nL : Nat} {ret : Option FieldType} {own : String} {k : kc_T} {G : gx_T} {h0 h h' : hp_T} {fr lo : Nat} {pc : Nat} {ls : Array Slot} {rest : List Value} {a0 : Nat} {E : String}
/-- the method's one handler catches what a call threw -/
theorem th_catch (C : cx_ p l R s m args meth c cc nL ret own k G h0 fr lo) {x : ExceptionTableEntry} (hone : c.exceptionTable.toList = [x]) (hx : covers x pc = true) (hx0 : x.catchType ≠ 0) (q : Cond.classLink own x.catchType E ∈ lw_all)
    {st0 : List Value} (hr : RT_ p l e R s m args below meth c H locs k G h0 h h' E a0 pc ls st0 rest) {hpc : Nat} (hh : x.handlerPc = hpc)
    (kk : ∀ (H1 : Heap) (locs1 : List Loc), nw_ k G s h0 h' H1 locs1 → W p l e R s m args below meth c H1 locs1 (h_sz h' - h_sz h0) (h_sl h' - h_sl h0) Q (F0 m hpc ls [.ref a0])) :
    W p l e R s m args below meth c H locs (h_sz h - h_sz h0) (h_sl h - h_sl h0) Q (F0 m pc ls st0) := by
  subst hh
  intro T hT X
  obtain ⟨T', locs', X', N', ⟨cell, c1, c2, c3⟩, st⟩ := hr T hT X
  have hpl : e.platform.magicAccessors = ({} : Platform).magicAccessors := by rw [X.admits.platform]
  obtain ⟨cT, hcT, hcl⟩ := Cond.classLink_spec C.2.2.2.2.2.1 (C.2.2.2.2.2.2.1 _ q) e.platform hpl
  cases c3.symm.trans hcT
  obtain ⟨dk, _, _, kt, hd, _, _, _, _, hkt, _, hopen⟩ := hcl.here
  have hcl₀ := X'.warmed.classLinks hcl
  have hW' : s.WarmedH (T'.vm.noted m.cls x.catchType (.cls cell.cls)) := X'.warmed.noted hd hopen (State.rightAt_cls hcl)
  obtain ⟨kt', hkt', -⟩ := X'.warmed.alike.2.2 _ _ hkt
  have X2 := X'.noted hW'
  obtain ⟨t, a1, b1⟩ := kk T'.heap locs' N' (T'.setVm (T'.vm.noted m.cls x.catchType (.cls cell.cls))) rfl X2
  refine ⟨t, st t ?_, b1⟩
  exact fi_caught (g := F0 m pc ls rest) X'.here (fi_one (s := (T'.setTop (F0 m pc ls rest)).pushFrame (.throwing a0)) (f := F0 m pc ls rest) (meth := meth) (code := c) X'.method' X'.code hone hx hx0 (c := cell.cls) (cell := cell) hcl₀ c1 (VmData.ne_statics_of c2) ⟨kt', hkt'⟩ rfl) a1
end TC
