set_option maxRecDepth 100000
theorem slD_ {e : Env} {d : Bool} {acts : List Action} {s : State} {E : CtlPost} {Q : Selection → Pre} {c : ClassId} {r m : MethodId} {rmeth meth : Method} {mk : Class} (hsel : selectMethod e.platform s.vm c r = .method m) (hrm : s.vm.method? r = some rmeth) (hm : s.vm.method? m = some meth)
    (hmk : s.vm.classes[m.cls]? = some mk) (hitf : mk.isInterface = true) (hnear : nr_ s.vm c rmeth.name rmeth.desc m) : wp (Op.invokeinterface.selectVirtual c r) Q E e d acts s ↔ Q (.method m) d acts s := by
  cases hp : e.platform.privateHidesDefault
  · simp [Op.invokeinterface.selectVirtual, hrm, Op.selectFor_method hsel hm, hmk, hitf, hp]
  · cases hn : nearestHeld s.vm c rmeth.name rmeth.desc with
    | none => simp [Op.invokeinterface.selectVirtual, hrm, Op.selectFor_method hsel hm, hmk, hitf, hp, hn]
    | some kh =>
      obtain ⟨k, hd⟩ := kh
      cases hd with
      | nothing => simp [Op.invokeinterface.selectVirtual, hrm, Op.selectFor_method hsel hm, hmk, hitf, hp, hn]
      | default d' => cases hnear.1 k d' hn; simp [Op.invokeinterface.selectVirtual, hrm, Op.selectFor_method hsel hm, hmk, hitf, hp, hn]
      | thrower b => exact absurd hn (hnear.2 k b)
theorem wpD_ {Q : Unit → Pre} {E : CtlPost} {e : Env} {d : Bool} {acts : List Action} {s : State} {f : JFrame} {index a : Nat} {r m : MethodId} {c' : ClassId} {k k' mk : Class} {rmeth meth : Method} {args rest : List Value} {cell : Cell}
    (hs : s.topJava?.isSome) (hnamed : namesResolved s.vm f.method.cls index c') (hk' : s.vm.classes[c']? = some k') (hclass : k'.isInterface = false)
    (hr : s.vm.methodReady f.method.cls index r)
    (hk : s.vm.classes[r.cls]? = some k) (hrm : s.vm.method? r = some rmeth) (hpoly : signaturePolymorphic k rmeth = false)
    (hstatic : rmeth.isStatic = false)
    (hlen : args.length = rmeth.sig.parameters.length) (hstack : f.stack = args.reverse ++ .ref a :: rest)
    (hcell : s.heap[a]? = some cell) (hobj : ∀ c, cell.vm ≠ .statics c)
    (hsel : selectMethod e.platform s.vm cell.cls r = .method m) (hm : s.vm.method? m = some meth) (habs : meth.isAbstract = false)
    (hmk : s.vm.classes[m.cls]? = some mk) (hitf : mk.isInterface = true) (hnear : nr_ s.vm cell.cls rmeth.name rmeth.desc m) :
    wp (Op.invokevirtual.sem index) Q E e d acts (s.setTop f) ↔ E (.invoke m (.ref a :: args).toArray) acts (s.setTop { f with stack := rest }) := by
  obtain ⟨kc, cf, ci, n, h1, h2, h3, h4⟩ := hnamed
  have hpre : ∀ {Q' : ClassId → Pre}, wp (Jvm.refClassAt index) Q' E e d acts (s.setTop f) ↔ Q' c' d acts (s.setTop f) := by
    intro Q'
    rcases h3 with h3 | h3 <;>
      simp [Jvm.refClassAt, Jvm.constantAt, State.method?_setTop f hs, h1, h2, h3, _root_.Jvm.W.resolveClassAt_ready (State.method?_setTop f hs) h4]
  simp only [Op.invokevirtual.sem, Sem.wp_bind', hpre, _root_.Jvm.W.theClass, State.vm_setTop, hk', Option.some.injEq, exists_eq_left', _root_.Jvm.W.ite, hclass, Bool.false_eq_true, if_false, Sem.wp_pure',
    _root_.Jvm.W.resolveMethodAt_ready (State.method?_setTop f hs) hr]
  simp only [_root_.Jvm.W.theMethod, State.vm_setTop, hrm, Option.some.injEq, exists_eq_left', Seam.isPolymorphic, Sem.wp_bind', _root_.Jvm.W.theClass, hk, Sem.wp_pure', hpoly,
    _root_.Jvm.W.ite, Bool.false_eq_true, if_false, hstatic, Jvm.popArgs, ← hlen, Op.popN_top hs hstack]
  simp [hs, hcell, hobj, slD_ (s := s.setTop _) (show selectMethod e.platform (s.setTop _).vm cell.cls r = .method m from hsel) hrm hm hmk hitf hnear, hm, habs]
section RNY
variable {p : Program} {l : Launch} {e : Env} {R : Room} {s : State} {m : MethodId} {args : Array Value} {below : List Frame} {meth : Method} {c : Code} {H : Heap} {locs : List Loc} {Q : State → Prop}
variable {cc : ByteArray} {nL : Nat} {ret : Option FieldType} {own : String} {k : kc_T} {G : gx_T} {h0 h h' : hp_T} {fr lo : Nat} {pc : Nat} {ls : Array Slot} {rest : List Value}
variable {x y : MethodName} {bytes : ByteArray} {maxL index fr' lo' : Nat} {r0 : Option FieldType} {v : Option Value} {As : List Value} {b : Nat}
/-- a private method of a superclass, called through an object -/
theorem run_VP (C : cx_ p l R s m args meth c cc nL ret own k G h0 fr lo) (N : nw_ k G s h0 h H locs) {ci : Nat} (hM : ct_ l y (ws_ y bytes maxL r0) fr' lo' k G (.ref b :: As) h v h') (hcl : cls_ k h (some b) = some ci)
    (q1 : Cond.methodLink own index y ∈ lw_all) (q6 : Cond.sameMethod y.cls y.cls y.name y.desc ∈ lw_all) (q7 : y ∈ pv_L) (q2 : Cond.instanceMethod y ∈ lw_all) (q5 : Cond.code y bytes maxL r0 ∈ lw_all)
    {n : Nat} (hn : As.length = n) (hd : y.cls ≠ "java/lang/invoke/MethodHandle" ∧ y.cls ≠ "java/lang/invoke/VarHandle" ∧ (parseMethodDescriptor y.desc).map (fun d => d.parameters.length) = some n) (hR : fr' + 1 ≤ fr ∧ 8 + (maxL + 11) + lo' ≤ lo) (hsize : ls.size = nL) (hW : (rest.map fun v => v.category).sum ≤ 8) (hdg : decode cc pc = .ok (.invokevirtual index, 3)) :
    va_Run p l e R s m args below meth c H locs (h_sz h - h_sz h0) (h_sl h - h_sl h0) (h_sz h' - h_sz h) (h_sl h' - h_sl h) (F0 m pc ls (As.reverse ++ .ref b :: rest)) rest (cq_ k G h v h' (.ref b :: As).toArray) (ax_ k) := by
  have hK := bk_ct (e := e) (below := below) (len := 3) C hM q5 hR
  have hC := C
  obtain ⟨hx, hb, hml, -, -, hown, hts, K, hs0, -⟩ := C
  obtain ⟨cellB, hcB, hoB, hclB⟩ := recv_ N K hcl
  obtain ⟨mk, methM, hnamed, hmethM, hstM, hsigM⟩ := va_Decl.of (hts _ q2) (hts _ q5)
  obtain ⟨mk2, methM2, hnamed2, hmethM2, -, habM⟩ := Cond.instanceMethod_spec (hts _ q2)
  cases hnamed.symm.trans hnamed2
  cases hmethM.symm.trans hmethM2
  obtain ⟨cn, ck, r1, hcn, hck, hni, hf, hn1⟩ := Cond.sameMethod_found (hts _ q6)
  have hcls : mk.cls = cn := Option.some.inj ((findClass_of_methodNamed hnamed).symm.trans hcn)
  have hsel : selectMethod e.platform s.vm cellB.cls mk = .method mk := selectMethod_private hmethM (Cond.privateMethod_at (K.2.2.2.1.2.1.2.2.2.2.2.1 y q7) mk methM hnamed hmethM)
  intro T hT X
  have hd2 := hd.2.2
  rw [hsigM] at hd2
  obtain ⟨vm₁, X₁, hstep₁⟩ := X.invokevirtualUp hx hown (hts _ q1) (hts _ q6) ⟨hd.1, hd.2.1⟩ hnamed hmethM hstM (a := b) (cell := cellB) (by rw [hT]; exact hcB)
    (fun z h => by rw [h] at hoB; cases hoB) hsel hmethM habM (by rw [hcls]; exact hck) hni (g := F0 m pc ls (As.reverse ++ .ref b :: rest)) rfl (argsL := As) (rest := rest) (hn.trans (Option.some.inj hd2).symm) rfl (by rw [hb]; exact hdg)
  obtain ⟨v', ⟨U', l2, c2, s2⟩, X', ⟨g', mk', t, L, e1, e2, hq, h1, hL, h2, h3⟩, hsteps⟩ := hK m meth c ⟨T.setVm vm₁, locs, h_sz h - h_sz h0, h_sl h - h_sl h0⟩ { F0 m pc ls (As.reverse ++ .ref b :: rest) with stack := rest } (.invokevirtual index) mk (Value.ref b :: As).toArray X₁ rfl (hsize.trans hml.symm) (by rw [hb]; exact hdg) (lv_room (m := m) (pc := pc) (ls := ls) (rest := As.reverse ++ .ref b :: rest) hW) (X₁.named hnamed) (pre_ct hC N hT vm₁ X₁.warmed)
  dsimp only [Pt.U, Pt.locs, Pt.cells, Pt.slots] at X' e1 e2 h1 h2 h3 hsteps
  subst h1; subst h2; subst h3
  exact ⟨v', (T.setVm vm₁).calling g' mk' (Value.ref b :: As).toArray, t, U', L, hT, X', hL, e1, e2, hq, fun target h => hstep₁ _ fun acts => by rw [doInvoke_state]; exact hsteps.trans h⟩
/-- a method that a superclass has from an interface, called through an object: the given word on selection speaks of the interface's method -/
theorem run_UD (C : cx_ p l R s m args meth c cc nL ret own k G h0 fr lo) (N : nw_ k G s h0 h H locs) {ci : Nat} {owner : String} (hM : ct_ l y (ws_ y bytes maxL r0) fr' lo' k G (.ref b :: As) h v h') (hcl : cls_ k h (some b) = some ci)
    (q1 : Cond.methodLink own index x ∈ dw_L) (q6 : Cond.sameMethod x.cls owner x.name x.desc ∈ dw_L) (qd : Cond.declares ⟨owner, x.name, x.desc⟩ ∈ nw_L) (q2 : Cond.instanceMethod y ∈ lw_all) (q3 : Cond.selects (cn_ ci) ⟨owner, x.name, x.desc⟩ y ∈ lw_all) (q5 : Cond.code y bytes maxL r0 ∈ lw_all)
    {n : Nat} (hn : As.length = n) (hd : owner ≠ "java/lang/invoke/MethodHandle" ∧ owner ≠ "java/lang/invoke/VarHandle" ∧ (parseMethodDescriptor x.desc).map (fun d => d.parameters.length) = some n) (hR : fr' + 1 ≤ fr ∧ 8 + (maxL + 11) + lo' ≤ lo) (hsize : ls.size = nL) (hW : (rest.map fun v => v.category).sum ≤ 8) (hdg : decode cc pc = .ok (.invokevirtual index, 3)) :
    va_Run p l e R s m args below meth c H locs (h_sz h - h_sz h0) (h_sl h - h_sl h0) (h_sz h' - h_sz h) (h_sl h' - h_sl h) (F0 m pc ls (As.reverse ++ .ref b :: rest)) rest (cq_ k G h v h' (.ref b :: As).toArray) (ax_ k) := by
  have hK := bk_ct (e := e) (below := below) (len := 3) C hM q5 hR
  have hC := C
  obtain ⟨hx, hb, hml, -, -, hown, hts, K, hs0, -⟩ := C
  obtain ⟨cellB, hcB, hoB, hclB⟩ := recv_ N K hcl
  have hY : NY_ s := K.2.2.2.1.2.1.2.2.2.2
  have hlink : (Cond.methodLink own index x).before args s = true := va_tabs rfl rfl (hY.1 _ q1)
  have hsame : (Cond.sameMethod x.cls owner x.name x.desc).before args s = true := va_tabs rfl rfl (hY.1 _ q6)
  obtain ⟨r0', r, hnr, hrm, hstR, hsigR⟩ := va_Decl.abs (K.2.2.2.1.2.1.1 _ qd)
  obtain ⟨mk, methM, hnamed, hmethM, -, habM⟩ := Cond.instanceMethod_spec (hts _ q2)
  obtain ⟨c2, r2, m2, w1, w2, w3, w4, kP, hkP, hkPi⟩ := Cond.selects_spec (hts _ q3)
  cases hclB.symm.trans w1
  cases (State.methodFound?_of_named hnr ⟨hd.1, hd.2.1⟩).symm.trans w2
  cases hnamed.symm.trans w3
  intro T hT X
  have hd2 := hd.2.2
  rw [show parseMethodDescriptor x.desc = some r.sig from hsigR] at hd2
  have hsel : selectMethod e.platform s.vm cellB.cls r0' = .method mk := by rw [Launch.admits_selectMethod X.admits]; exact w4
  obtain ⟨vm₁, X₁, hstep₁⟩ := X.invokevirtualUp hx hown hlink hsame ⟨hd.1, hd.2.1⟩ hnr hrm hstR (a := b) (cell := cellB) (by rw [hT]; exact hcB)
    (fun z h => by rw [h] at hoB; cases hoB) hsel hmethM habM hkP hkPi (g := F0 m pc ls (As.reverse ++ .ref b :: rest)) rfl (argsL := As) (rest := rest) (hn.trans (Option.some.inj hd2).symm) rfl (by rw [hb]; exact hdg)
  obtain ⟨v', ⟨U', l2, c2, s2⟩, X', ⟨g', mk', t, L, e1, e2, hq, h1, hL, h2, h3⟩, hsteps⟩ := hK m meth c ⟨T.setVm vm₁, locs, h_sz h - h_sz h0, h_sl h - h_sl h0⟩ { F0 m pc ls (As.reverse ++ .ref b :: rest) with stack := rest } (.invokevirtual index) mk (Value.ref b :: As).toArray X₁ rfl (hsize.trans hml.symm) (by rw [hb]; exact hdg) (lv_room (m := m) (pc := pc) (ls := ls) (rest := As.reverse ++ .ref b :: rest) hW) (X₁.named hnamed) (pre_ct hC N hT vm₁ X₁.warmed)
  dsimp only [Pt.U, Pt.locs, Pt.cells, Pt.slots] at X' e1 e2 h1 h2 h3 hsteps
  subst h1; subst h2; subst h3
  exact ⟨v', (T.setVm vm₁).calling g' mk' (Value.ref b :: As).toArray, t, U', L, hT, X', hL, e1, e2, hq, fun target h => hstep₁ _ fun acts => by rw [doInvoke_state]; exact hsteps.trans h⟩
/-- a call through the interface that runs its default: Buyer.off -/
theorem run_FD (C : cx_ p l R s m args meth c cc nL ret own k G h0 fr lo) (N : nw_ k G s h0 h H locs) {ci count : Nat} (hM : ct_ l yoff_ (ws_ yoff_ bytes maxL r0) fr' lo' k G (.ref b :: As) h v h') (hcl : cls_ k h (some b) = some ci) (hci : ci = 6 ∨ ci = 7)
    (q1 : Cond.methodLink own index yoff_ ∈ lw_all) (q2 : Cond.instanceMethod yoff_ ∈ lw_all) (qc : Cond.castable (cn_ ci) yoff_.cls ∈ nw_L) (q5 : Cond.code yoff_ bytes maxL r0 ∈ lw_all)
    (hn : As.length = 2) (hR : fr' + 1 ≤ fr ∧ 8 + (maxL + 11) + lo' ≤ lo) (hsize : ls.size = nL) (hW : (rest.map fun v => v.category).sum ≤ 8) (hdg : decode cc pc = .ok (.invokeinterface index count, 5)) :
    va_Run5 p l e R s m args below meth c H locs (h_sz h - h_sz h0) (h_sl h - h_sl h0) (h_sz h' - h_sz h) (h_sl h' - h_sl h) (F0 m pc ls (As.reverse ++ .ref b :: rest)) rest (cq_ k G h v h' (.ref b :: As).toArray) (ax_ k) := by
  have hK := bk_ct (e := e) (below := below) (len := 5) C hM q5 hR
  have hC := C
  obtain ⟨hx, hb, hml, -, -, hown, hts, K, hs0, -⟩ := C
  obtain ⟨cellB, hcB, hoB, hclB⟩ := recv_ N K hcl
  obtain ⟨kB, hkB, -⟩ := Vm.findClass_spec hclB
  have hY : NY_ s := K.2.2.2.1.2.1.2.2.2.2
  have hface : (Cond.interfaceMethod yoff_.cls yoff_.cls yoff_.name yoff_.desc).before #[] s = true := K.2.2.2.1.2.1.2.2.1.1.2.1
  have hld : (Cond.landsInDefault (cn_ ci) yoff_ yoff_).before #[] s = true := by
    rcases hci with rfl | rfl
    · exact hY.2.2.1.2.1
    · exact hY.2.2.1.2.2
  obtain ⟨r0', r, hnr, hrm, hstR, hsigR⟩ := Cond.declares_spec hY.2.2.1.1.1
  obtain ⟨cL, kL, r1, hcL, hkL, hiL, hfoundL, hn1⟩ := Cond.interfaceMethod_spec hface
  cases hnr.symm.trans hn1
  have hr0cls : r0'.cls = cL := Option.some.inj ((findClass_of_methodNamed hnr).symm.trans hcL)
  obtain ⟨mk, methM, hnamed, hmethM, -, habM⟩ := Cond.instanceMethod_spec (hts _ q2)
  obtain ⟨c2, r2, m2, rm, w1, w2, w3, w5, w4, -, w6, -⟩ := ld_spec hld
  cases hclB.symm.trans w1
  cases hfoundL.symm.trans w2
  cases hnamed.symm.trans w3
  cases hrm.symm.trans w5
  have hpubM : hasFlag methM.accessFlags Acc.public_ = true := Cond.publicMethod_spec hnamed hmethM hY.2.2.1.1.2
  obtain ⟨c3, t3, z1, z2, z3⟩ := Cond.castable_spec (va_Nw.use rfl (K.2.2.2.1.2.1.1 _ qc) : (Cond.castable (cn_ ci) yoff_.cls).before args s = true)
  cases hclB.symm.trans z1
  cases hcL.symm.trans z2
  intro T hT X
  have hd2 : (parseMethodDescriptor yoff_.desc).map (fun d => d.parameters.length) = some 2 := by decide +kernel
  rw [hsigR] at hd2
  have hsel : selectMethod e.platform s.vm cellB.cls r0' = .method mk := by rw [Launch.admits_selectMethod X.admits]; exact w4
  obtain ⟨vm₁, X₁, hstep₁⟩ := X.invokeinterface hx hown (hts _ q1) hnr hrm hstR (by rw [hr0cls]; exact hkL) hiL ⟨by decide, by decide⟩ (a := b) (cell := cellB) (kcell := kB) (by rw [hT]; exact hcB)
    (fun z h => by rw [h] at hoB; cases hoB) hkB (by rw [hr0cls]; exact z3) hsel hmethM w6 hpubM habM (g := F0 m pc ls (As.reverse ++ .ref b :: rest)) rfl (argsL := As) (rest := rest) (hn.trans (Option.some.inj hd2).symm) rfl (by rw [hb]; exact hdg)
  obtain ⟨v', ⟨U', l2, c2, s2⟩, X', ⟨g', mk', t, L, e1, e2, hq, h1, hL, h2, h3⟩, hsteps⟩ := hK m meth c ⟨T.setVm vm₁, locs, h_sz h - h_sz h0, h_sl h - h_sl h0⟩ { F0 m pc ls (As.reverse ++ .ref b :: rest) with stack := rest } (.invokeinterface index count) mk (Value.ref b :: As).toArray X₁ rfl (hsize.trans hml.symm) (by rw [hb]; exact hdg) (lv_room (m := m) (pc := pc) (ls := ls) (rest := As.reverse ++ .ref b :: rest) hW) (X₁.named hnamed) (pre_ct hC N hT vm₁ X₁.warmed)
  dsimp only [Pt.U, Pt.locs, Pt.cells, Pt.slots] at X' e1 e2 h1 h2 h3 hsteps
  subst h1; subst h2; subst h3
  exact ⟨v', (T.setVm vm₁).calling g' mk' (Value.ref b :: As).toArray, t, U', L, hT, X', hL, e1, e2, hq, fun target h => hstep₁ _ fun acts => by rw [doInvoke_state]; exact hsteps.trans h⟩
/-- the step of such a call -/
theorem upD_ {T : State} {cells slots : Nat} (X : Stand p l e R s m args below meth c T locs cells slots) (hexec : p.tables.exec = Jvm.exec)
    {own owner : String} {index : Nat} {x : MethodName} (hown : s.vm.findClass own = some m.cls) (hlink : (Cond.methodLink own index x).before args s = true)
    (hsame : (Cond.sameMethod x.cls owner x.name x.desc).before args s = true) (howner : owner ≠ "java/lang/invoke/MethodHandle" ∧ owner ≠ "java/lang/invoke/VarHandle")
    {r0 : MethodId} {r : Method} (hn : s.methodNamed? ⟨owner, x.name, x.desc⟩ = some r0) (hrm : s.vm.method? r0 = some r) (hstatic : r.isStatic = false)
    {a : Addr} {cell : Cell} (hcell : T.heap[a]? = some cell) (hobj : ∀ c, cell.vm ≠ .statics c)
    {m' : MethodId} {meth' : Method} {mk : Class} (hsel : selectMethod e.platform s.vm cell.cls r0 = .method m') (hm' : s.vm.method? m' = some meth') (habs : meth'.isAbstract = false)
    (hmk : s.vm.classes[m'.cls]? = some mk) (hitf : mk.isInterface = true) (hnear : nr_ s.vm cell.cls r.name r.desc m')
    {g : JFrame} (hg : g.method = m) {argsL rest : List Value} (hlen : argsL.length = r.sig.parameters.length) (hstack : g.stack = argsL.reverse ++ .ref a :: rest)
    (hdg : decode c.code g.pc = .ok (.invokevirtual index, 3)) :
    ∃ vm', Stand p l e R s m args below meth c (T.setVm vm') locs cells slots ∧
      ∀ target, (∀ acts, Steps p.tables e below (doInvoke e ((T.setVm vm').setTop { g with stack := rest }) acts m' (.ref a :: argsL).toArray).1 target) → Steps p.tables e below (T.setTop g) target := by
  have hpl : e.platform.magicAccessors = ({} : Platform).magicAccessors := by rw [X.admits.platform]
  obtain ⟨cn, ck, r1, hcn, hck, hni, hf, hn1⟩ := Cond.sameMethod_found hsame
  cases hn.symm.trans hn1
  obtain ⟨ci, hl, hright⟩ := Cond.methodLink_specUp hown hcn hck hni hf hlink e.platform hpl (by rw [X.admits.platform])
  have hE : s.MethodEntryUp e T.vm m.cls index cn r0 ci := State.methodEntryUp X.warmed hl hright
  obtain ⟨kr, hkr, hnr⟩ := className_of_methodNamed hn
  obtain ⟨dk, cfile, nt, _, _, _, _, _, hd, hcf, hcp, -⟩ := hl.here
  have al := hE.warmed.alike
  obtain ⟨dk₂, hdk₂, hres⟩ := hE.classReady
  obtain ⟨dk₃, hdk₃, hed⟩ := al.2.2 _ _ hd
  cases hdk₂.symm.trans hdk₃
  obtain ⟨kr₂, hkr₂, her⟩ := al.2.2 _ _ hkr
  obtain ⟨ck₂, hck₂, hec⟩ := al.2.2 _ _ hck
  obtain ⟨mk₂, hmk₂, hem⟩ := al.2.2 _ _ hmk
  refine ⟨T.vm.calledUp m.cls ci index cn r0, X.noted hE.warmed, fun target hrest => ?_⟩
  subst hg
  jvm_step X.here [hexec, hdg, invokevirtual.wp_coldUp (e := e) (s := T) (s₀ := s) (f := g) X.here.top X.warmed hE hd hcf (Or.inl hcp) hck hni,
    wpD_ (e := e) (s := T.setVm (T.vm.calledUp g.method.cls ci index cn r0)) (f := g) (r := r0) (m := m') (c' := cn) (k := kr₂) (k' := ck₂) (mk := mk₂) (rmeth := r) (meth := meth') (a := a) (args := argsL) (rest := rest) (cell := cell)
      X.here.top ⟨dk₂, cfile, ci, nt, hdk₂, by rw [hed]; exact hcf, Or.inl hcp, dk₂, hdk₂, hres⟩ hck₂ (by rw [hec]; exact hni) hE.ready hkr₂
      (by show (T.vm.calledUp g.method.cls ci index cn r0).method? r0 = some r; rw [al.method?]; exact hrm)
      (by rw [her]; show signaturePolymorphic kr r = false; simp [signaturePolymorphic, hnr, howner.1, howner.2]) hstatic hlen hstack hcell hobj
      (by show selectMethod e.platform (T.vm.calledUp g.method.cls ci index cn r0) cell.cls r0 = .method m'; rw [al.selectMethod]; exact hsel)
      (by show (T.vm.calledUp g.method.cls ci index cn r0).method? m' = some meth'; rw [al.method?]; exact hm') habs hmk₂ (by rw [hem]; exact hitf) (hnear.moved al)]
  exact hrest
/-- a call through an object that runs an interface's default -/
theorem run_UL (C : cx_ p l R s m args meth c cc nL ret own k G h0 fr lo) (N : nw_ k G s h0 h H locs) {ci : Nat} {owner : String} (hM : ct_ l y (ws_ y bytes maxL r0) fr' lo' k G (.ref b :: As) h v h') (hcl : cls_ k h (some b) = some ci)
    (q1 : Cond.methodLink own index x ∈ dw_L) (q6 : Cond.sameMethod x.cls owner x.name x.desc ∈ dw_L) (qd : Cond.declares ⟨owner, x.name, x.desc⟩ ∈ nw_L) (q2 : Cond.instanceMethod y ∈ lw_all) (hld : (Cond.landsInDefault (cn_ ci) x y).before #[] s = true) (q5 : Cond.code y bytes maxL r0 ∈ lw_all)
    {n : Nat} (hn : As.length = n) (hd : owner ≠ "java/lang/invoke/MethodHandle" ∧ owner ≠ "java/lang/invoke/VarHandle" ∧ (parseMethodDescriptor x.desc).map (fun d => d.parameters.length) = some n) (hR : fr' + 1 ≤ fr ∧ 8 + (maxL + 11) + lo' ≤ lo) (hsize : ls.size = nL) (hW : (rest.map fun v => v.category).sum ≤ 8) (hdg : decode cc pc = .ok (.invokevirtual index, 3)) :
    va_Run p l e R s m args below meth c H locs (h_sz h - h_sz h0) (h_sl h - h_sl h0) (h_sz h' - h_sz h) (h_sl h' - h_sl h) (F0 m pc ls (As.reverse ++ .ref b :: rest)) rest (cq_ k G h v h' (.ref b :: As).toArray) (ax_ k) := by
  have hK := bk_ct (e := e) (below := below) (len := 3) C hM q5 hR
  have hC := C
  obtain ⟨hx, hb, hml, -, -, hown, hts, K, hs0, -⟩ := C
  obtain ⟨cellB, hcB, hoB, hclB⟩ := recv_ N K hcl
  have hY : NY_ s := K.2.2.2.1.2.1.2.2.2.2
  have hlink : (Cond.methodLink own index x).before args s = true := va_tabs rfl rfl (hY.1 _ q1)
  have hsame : (Cond.sameMethod x.cls owner x.name x.desc).before args s = true := va_tabs rfl rfl (hY.1 _ q6)
  obtain ⟨r0', r, hnr, hrm, hstR, hsigR⟩ := va_Decl.abs (K.2.2.2.1.2.1.1 _ qd)
  obtain ⟨cn, ck, r1, hcn, hck, hni, hf, hn1⟩ := Cond.sameMethod_found hsame
  cases hnr.symm.trans hn1
  obtain ⟨mk, methM, hnamed, hmethM, -, habM⟩ := Cond.instanceMethod_spec (hts _ q2)
  obtain ⟨c2, r2, m2, rm, w1, w2, w3, w5, w4, ⟨kP, hkP, hkPi⟩, -, w7⟩ := ld_spec hld
  cases hclB.symm.trans w1
  cases hf.symm.trans w2
  cases hnamed.symm.trans w3
  cases hrm.symm.trans w5
  intro T hT X
  have hd2 := hd.2.2
  rw [show parseMethodDescriptor x.desc = some r.sig from hsigR] at hd2
  have hsel : selectMethod e.platform s.vm cellB.cls r0' = .method mk := by rw [Launch.admits_selectMethod X.admits]; exact w4
  obtain ⟨vm₁, X₁, hstep₁⟩ := upD_ X hx hown hlink hsame ⟨hd.1, hd.2.1⟩ hnr hrm hstR (a := b) (cell := cellB) (by rw [hT]; exact hcB)
    (fun z h => by rw [h] at hoB; cases hoB) hsel hmethM habM hkP hkPi w7 (g := F0 m pc ls (As.reverse ++ .ref b :: rest)) rfl (argsL := As) (rest := rest) (hn.trans (Option.some.inj hd2).symm) rfl (by rw [hb]; exact hdg)
  obtain ⟨v', ⟨U', l2, c2, s2⟩, X', ⟨g', mk', t, L, e1, e2, hq, h1, hL, h2, h3⟩, hsteps⟩ := hK m meth c ⟨T.setVm vm₁, locs, h_sz h - h_sz h0, h_sl h - h_sl h0⟩ { F0 m pc ls (As.reverse ++ .ref b :: rest) with stack := rest } (.invokevirtual index) mk (Value.ref b :: As).toArray X₁ rfl (hsize.trans hml.symm) (by rw [hb]; exact hdg) (lv_room (m := m) (pc := pc) (ls := ls) (rest := As.reverse ++ .ref b :: rest) hW) (X₁.named hnamed) (pre_ct hC N hT vm₁ X₁.warmed)
  dsimp only [Pt.U, Pt.locs, Pt.cells, Pt.slots] at X' e1 e2 h1 h2 h3 hsteps
  subst h1; subst h2; subst h3
  exact ⟨v', (T.setVm vm₁).calling g' mk' (Value.ref b :: As).toArray, t, U', L, hT, X', hL, e1, e2, hq, fun target h => hstep₁ _ fun acts => by rw [doInvoke_state]; exact hsteps.trans h⟩
end RNY
