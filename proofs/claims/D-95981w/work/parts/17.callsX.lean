set_option maxRecDepth 100000
section RNX
variable {p : Program} {l : Launch} {e : Env} {R : Room} {s : State} {m : MethodId} {args : Array Value} {below : List Frame} {meth : Method} {c : Code} {H : Heap} {locs : List Loc} {Q : State → Prop}
variable {cc : ByteArray} {nL : Nat} {ret : Option FieldType} {own : String} {k : kc_T} {G : gx_T} {h0 h h' : hp_T} {fr lo : Nat} {pc : Nat} {ls : Array Slot} {rest : List Value}
variable {x y : MethodName} {bytes : ByteArray} {maxL index fr' lo' : Nat} {r0 : Option FieldType} {v : Option Value} {As : List Value} {b : Nat}
/-- a call through an object of a method that its class's superclass declares: y is what an object of class ci runs -/
theorem run_U (C : cx_ p l R s m args meth c cc nL ret own k G h0 fr lo) (N : nw_ k G s h0 h H locs) {ci : Nat} {owner : String} (hM : ct_ l y (ws_ y bytes maxL r0) fr' lo' k G (.ref b :: As) h v h') (hcl : cls_ k h (some b) = some ci)
    (q1 : Cond.methodLink own index x ∈ lw_all) (q6 : Cond.sameMethod x.cls owner x.name x.desc ∈ lw_all) (hd0 : va_Decl s ⟨owner, x.name, x.desc⟩) (q2 : Cond.instanceMethod y ∈ lw_all) (q3 : Cond.selects (cn_ ci) x y ∈ lw_all) (q5 : Cond.code y bytes maxL r0 ∈ lw_all)
    {n : Nat} (hn : As.length = n) (hd : owner ≠ "java/lang/invoke/MethodHandle" ∧ owner ≠ "java/lang/invoke/VarHandle" ∧ (parseMethodDescriptor x.desc).map (fun d => d.parameters.length) = some n) (hR : fr' + 1 ≤ fr ∧ 8 + (maxL + 11) + lo' ≤ lo) (hsize : ls.size = nL) (hW : (rest.map fun v => v.category).sum ≤ 8) (hdg : decode cc pc = .ok (.invokevirtual index, 3)) :
    va_Run p l e R s m args below meth c H locs (h_sz h - h_sz h0) (h_sl h - h_sl h0) (h_sz h' - h_sz h) (h_sl h' - h_sl h) (F0 m pc ls (As.reverse ++ .ref b :: rest)) rest (cq_ k G h v h' (.ref b :: As).toArray) (ax_ k) := by
  have hK := bk_ct (e := e) (below := below) (len := 3) C hM q5 hR
  have hC := C
  obtain ⟨hx, hb, hml, -, -, hown, hts, K, hs0, -⟩ := C
  obtain ⟨cellB, hcB, hoB, hclB⟩ := recv_ N K hcl
  intro T hT X
  obtain ⟨v', vm₁, ⟨U', l2, c2, s2⟩, hW₁, X', ⟨g', mk, t, L, e1, e2, hq, h1, hL, h2, h3⟩, st⟩ := va_callVU X hx (C := cn_ ci) (bytes := bytes) (maxL := maxL) (ret := r0) hown (hts _ q1) (hts _ q6) hd0 ⟨hd.1, hd.2.1⟩ (hts _ q3) (hts _ q2) (hts _ q5) hK (by rw [hT]; exact hcB) hoB hclB rfl (hsize.trans hml.symm) (argsL := As) (rest := rest) (fun sig h => by have h2 := hd.2.2; rw [h] at h2; exact hn.trans (Option.some.inj h2).symm) rfl (lv_room (m := m) (pc := pc) (ls := ls) (rest := As.reverse ++ .ref b :: rest) hW) (by rw [hb]; exact hdg)
    (fun vm₁ hW₁ => pre_ct hC N hT vm₁ hW₁)
  dsimp only [Pt.U, Pt.locs, Pt.cells, Pt.slots] at X' e1 e2 h1 h2 h3 st
  subst h1; subst h2; subst h3
  exact ⟨v', (T.setVm vm₁).calling g' mk (Value.ref b :: As).toArray, t, U', L, hT, X', hL, e1, e2, hq, st⟩
/-- super.y(..) -/
theorem run_P (C : cx_ p l R s m args meth c cc nL ret own k G h0 fr lo) (N : nw_ k G s h0 h H locs) {ci : Nat} (hM : ct_ l y (ws_ y bytes maxL r0) fr' lo' k G (.ref b :: As) h v h') (hcl : cls_ k h (some b) = some ci)
    (q1 : Cond.methodLink own index y ∈ lw_all) (q6 : Cond.sameMethod y.cls y.cls y.name y.desc ∈ lw_all) (q7 : Cond.superclass own y.cls ∈ lw_all) (q2 : Cond.instanceMethod y ∈ lw_all) (q5 : Cond.code y bytes maxL r0 ∈ lw_all) (hno : y.name ≠ "<init>")
    {n : Nat} (hn : As.length = n) (hd : (parseMethodDescriptor y.desc).map (fun d => d.parameters.length) = some n) (hR : fr' + 1 ≤ fr ∧ 8 + (maxL + 11) + lo' ≤ lo) (hsize : ls.size = nL) (hW : (rest.map fun v => v.category).sum ≤ 8) (hdg : decode cc pc = .ok (.invokespecial index, 3)) :
    va_Run p l e R s m args below meth c H locs (h_sz h - h_sz h0) (h_sl h - h_sl h0) (h_sz h' - h_sz h) (h_sl h' - h_sl h) (F0 m pc ls (As.reverse ++ .ref b :: rest)) rest (cq_ k G h v h' (.ref b :: As).toArray) (ax_ k) := by
  have hK := bk_ct (e := e) (below := below) (len := 3) C hM q5 hR
  have hC := C
  obtain ⟨hx, hb, hml, -, -, hown, hts, K, hs0, -⟩ := C
  obtain ⟨cellB, hcB, hoB, hclB⟩ := recv_ N K hcl
  obtain ⟨kB, hkB, -⟩ := Vm.findClass_spec hclB
  intro T hT X
  obtain ⟨v', vm₁, ⟨U', l2, c2, s2⟩, hW₁, X', ⟨g', mk, t, L, e1, e2, hq, h1, hL, h2, h3⟩, st⟩ := va_callSU X hx (bytes := bytes) (maxL := maxL) (ret := r0) hown (hts _ q1) (hts _ q6) (hts _ q7) (hts _ q2) (hts _ q5) hno hK (by rw [hT]; exact hcB) hoB hkB rfl (hsize.trans hml.symm) (argsL := As) (rest := rest) (fun sig h => by have h2 := hd; rw [h] at h2; exact hn.trans (Option.some.inj h2).symm) rfl (lv_room (m := m) (pc := pc) (ls := ls) (rest := As.reverse ++ .ref b :: rest) hW) (by rw [hb]; exact hdg)
    (fun vm₁ hW₁ => pre_ct hC N hT vm₁ hW₁)
  dsimp only [Pt.U, Pt.locs, Pt.cells, Pt.slots] at X' e1 e2 h1 h2 h3 st
  subst h1; subst h2; subst h3
  exact ⟨v', (T.setVm vm₁).calling g' mk (Value.ref b :: As).toArray, t, U', L, hT, X', hL, e1, e2, hq, st⟩
/-- a nest mate's static method -/
theorem run_SN (C : cx_ p l R s m args meth c cc nL ret own k G h0 fr lo) (N : nw_ k G s h0 h H locs) {host : String} (hM : ct_ l y (ws_ y bytes maxL r0) fr' lo' k G As h v h')
    (q1 : Cond.methodLinkNest own index y host ∈ nw_L) (q2 : Cond.static y ∈ lw_all) (q4 : Cond.initialized y.cls ∈ lw_all) (q5 : Cond.code y bytes maxL r0 ∈ lw_all)
    {n : Nat} (hn : As.length = n) (hd : y.cls ≠ "java/lang/invoke/MethodHandle" ∧ y.cls ≠ "java/lang/invoke/VarHandle" ∧ (parseMethodDescriptor y.desc).map (fun d => d.parameters.length) = some n) (hR : fr' + 1 ≤ fr ∧ 8 + (maxL + 11) + lo' ≤ lo) (hsize : ls.size = nL) (hW : (rest.map fun v => v.category).sum ≤ 8) (hdg : decode cc pc = .ok (.invokestatic index, 3)) :
    va_Run p l e R s m args below meth c H locs (h_sz h - h_sz h0) (h_sl h - h_sl h0) (h_sz h' - h_sz h) (h_sl h' - h_sl h) (F0 m pc ls (As.reverse ++ rest)) rest (cq_ k G h v h' As.toArray) (ax_ k) := by
  have hK := bk_ct (e := e) (below := below) (len := 3) C hM q5 hR
  have hC := C
  obtain ⟨hx, hb, hml, -, -, hown, hts, K, hs0, -⟩ := C
  intro T hT X
  obtain ⟨v', vm₁, ⟨U', l2, c2, s2⟩, hW₁, X', ⟨g', mk, t, L, e1, e2, hq, h1, hL, h2, h3⟩, st⟩ := va_callSN X hx (bytes := bytes) (maxL := maxL) (ret := r0) hown (va_Nw.use rfl (K.2.2.2.1.2.1.1 _ q1)) (hts _ q2) (hts _ q4) (hts _ q5) ⟨hd.1, hd.2.1⟩ hK rfl (hsize.trans hml.symm) (argsL := As) (rest := rest) (fun sig h => by have h2 := hd.2.2; rw [h] at h2; exact hn.trans (Option.some.inj h2).symm) rfl (lv_room (m := m) (pc := pc) (ls := ls) (rest := As.reverse ++ rest) hW) (by rw [hb]; exact hdg)
    (fun vm₁ hW₁ => pre_ct hC N hT vm₁ hW₁)
  dsimp only [Pt.U, Pt.locs, Pt.cells, Pt.slots] at X' e1 e2 h1 h2 h3 st
  subst h1; subst h2; subst h3
  exact ⟨v', (T.setVm vm₁).calling g' mk As.toArray, t, U', L, hT, X', hL, e1, e2, hq, st⟩
/-- a nest mate's constructor -/
theorem run_IN (C : cx_ p l R s m args meth c cc nL ret own k G h0 fr lo) (N : nw_ k G s h0 h H locs) {host : String} (hM : ct_ l y (ws_ y bytes maxL none) fr' lo' k G (.ref b :: As) h v h')
    (q1 : Cond.methodLinkNest own index y host ∈ nw_L) (q2 : Cond.instanceMethod y ∈ lw_all) (q5 : Cond.code y bytes maxL none ∈ lw_all) (hin : y.name = "<init>")
    {n : Nat} (hn : As.length = n) (hd : y.cls ≠ "java/lang/invoke/MethodHandle" ∧ y.cls ≠ "java/lang/invoke/VarHandle" ∧ (parseMethodDescriptor y.desc).map (fun d => d.parameters.length) = some n) (hR : fr' + 1 ≤ fr ∧ 8 + (maxL + 11) + lo' ≤ lo) (hsize : ls.size = nL) (hW : (rest.map fun v => v.category).sum ≤ 8) (hdg : decode cc pc = .ok (.invokespecial index, 3)) :
    va_Run p l e R s m args below meth c H locs (h_sz h - h_sz h0) (h_sl h - h_sl h0) (h_sz h' - h_sz h) (h_sl h' - h_sl h) (F0 m pc ls (As.reverse ++ .ref b :: rest)) rest (cq_ k G h v h' (.ref b :: As).toArray) (ax_ k) := by
  have hK := bk_ct (e := e) (below := below) (len := 3) C hM q5 hR
  have hC := C
  obtain ⟨hx, hb, hml, -, -, hown, hts, K, hs0, -⟩ := C
  intro T hT X
  obtain ⟨v', vm₁, ⟨U', l2, c2, s2⟩, hW₁, X', ⟨g', mk, t, L, e1, e2, hq, h1, hL, h2, h3⟩, st⟩ := va_callIN X hx (bytes := bytes) (maxL := maxL) hown hin (va_Nw.use rfl (K.2.2.2.1.2.1.1 _ q1)) (hts _ q2) (hts _ q5) ⟨hd.1, hd.2.1⟩ hK rfl (hsize.trans hml.symm) (a := b) (argsL := As) (rest := rest) (fun sig h => by have h2 := hd.2.2; rw [h] at h2; exact hn.trans (Option.some.inj h2).symm) rfl (lv_room (m := m) (pc := pc) (ls := ls) (rest := As.reverse ++ .ref b :: rest) hW) (by rw [hb]; exact hdg)
    (fun vm₁ hW₁ => pre_ct hC N hT vm₁ hW₁)
  dsimp only [Pt.U, Pt.locs, Pt.cells, Pt.slots] at X' e1 e2 h1 h2 h3 st
  subst h1; subst h2; subst h3
  exact ⟨v', (T.setVm vm₁).calling g' mk (Value.ref b :: As).toArray, t, U', L, hT, X', hL, e1, e2, hq, st⟩
/-- a call through an interface -/
theorem run_F (C : cx_ p l R s m args meth c cc nL ret own k G h0 fr lo) (N : nw_ k G s h0 h H locs) {ci count : Nat} (hM : ct_ l y (ws_ y bytes maxL r0) fr' lo' k G (.ref b :: As) h v h') (hcl : cls_ k h (some b) = some ci) (hF : va_Fw (cn_ ci) x y s)
    (q1 : Cond.methodLink own index x ∈ lw_all) (q2 : Cond.instanceMethod y ∈ lw_all) (q3 : Cond.selects (cn_ ci) x y ∈ lw_all) (q5 : Cond.code y bytes maxL r0 ∈ lw_all)
    {n : Nat} (hn : As.length = n) (hd : x.cls ≠ "java/lang/invoke/MethodHandle" ∧ x.cls ≠ "java/lang/invoke/VarHandle" ∧ (parseMethodDescriptor x.desc).map (fun d => d.parameters.length) = some n) (hR : fr' + 1 ≤ fr ∧ 8 + (maxL + 11) + lo' ≤ lo) (hsize : ls.size = nL) (hW : (rest.map fun v => v.category).sum ≤ 8) (hdg : decode cc pc = .ok (.invokeinterface index count, 5)) :
    va_Run5 p l e R s m args below meth c H locs (h_sz h - h_sz h0) (h_sl h - h_sl h0) (h_sz h' - h_sz h) (h_sl h' - h_sl h) (F0 m pc ls (As.reverse ++ .ref b :: rest)) rest (cq_ k G h v h' (.ref b :: As).toArray) (ax_ k) := by
  have hK := bk_ct (e := e) (below := below) (len := 5) C hM q5 hR
  have hC := C
  obtain ⟨hx, hb, hml, -, -, hown, hts, K, hs0, -⟩ := C
  obtain ⟨cellB, hcB, hoB, hclB⟩ := recv_ N K hcl
  obtain ⟨kB, hkB, -⟩ := Vm.findClass_spec hclB
  obtain ⟨w1, w2, w3, w4, w5⟩ := hF
  intro T hT X
  obtain ⟨v', vm₁, ⟨U', l2, c2, s2⟩, hW₁, X', ⟨g', mk, t, L, e1, e2, hq, h1, hL, h2, h3⟩, st⟩ := va_callIF X hx (C := cn_ ci) (bytes := bytes) (maxL := maxL) (ret := r0) hown (hts _ q1) (va_tabs rfl rfl w1) (va_tabs rfl rfl w2) (hts _ q3) (hts _ q2) (va_tabs rfl rfl w3) (va_tabs rfl rfl w4) (va_tabs rfl rfl w5) (hts _ q5) ⟨hd.1, hd.2.1⟩ hK (by rw [hT]; exact hcB) hoB hclB hkB rfl (hsize.trans hml.symm) (argsL := As) (rest := rest) (fun sig h => by have h2 := hd.2.2; rw [h] at h2; exact hn.trans (Option.some.inj h2).symm) rfl (lv_room (m := m) (pc := pc) (ls := ls) (rest := As.reverse ++ .ref b :: rest) hW) (by rw [hb]; exact hdg)
    (fun vm₁ hW₁ => pre_ct hC N hT vm₁ hW₁)
  dsimp only [Pt.U, Pt.locs, Pt.cells, Pt.slots] at X' e1 e2 h1 h2 h3 st
  subst h1; subst h2; subst h3
  exact ⟨v', (T.setVm vm₁).calling g' mk (Value.ref b :: As).toArray, t, U', L, hT, X', hL, e1, e2, hq, st⟩
theorem rn_go5 {st0 : List Value} {a : Array Value} (hr : va_Run5 p l e R s m args below meth c H locs (h_sz h - h_sz h0) (h_sl h - h_sl h0) (h_sz h' - h_sz h) (h_sl h' - h_sl h) (F0 m pc ls st0) rest (cq_ k G h v h' a) (ax_ k)) (N : nw_ k G s h0 h H locs) (hs0 : h_sz h0 = s.heap.size)
    (kk : ∀ (H1 : Heap) (locs1 : List Loc), nw_ k G s h0 h' H1 locs1 → W p l e R s m args below meth c H1 locs1 (h_sz h' - h_sz h0) (h_sl h' - h_sl h0) Q (F0 m (pc + 5) ls (v.toList ++ rest))) : W p l e R s m args below meth c H locs (h_sz h - h_sz h0) (h_sl h - h_sl h0) Q (F0 m pc ls st0) := by
  intro T hT X
  obtain ⟨v', st₀, t, T', L, e0, X', hL, e1, e2, ⟨hv, hO, hF, hle⟩, st⟩ := hr T hT X
  cases hv
  have hS : va_S (ax_ k) s.heap T'.heap (locs ++ L) := by
    refine ⟨?_, fun q h1 h2 => ?_, fun q hq => ?_⟩
    · rw [e1]; exact Nat.le_trans N.2.1.1 (by have := hF.1; rw [e0] at this; exact this)
    · rw [e1, hF.2 q (by rw [e0]; exact Nat.lt_of_lt_of_le h1 N.2.1.1) h2, e0]
      exact N.2.1.2.1 q h1 h2
    · rcases List.mem_append.mp hq with z | z
      · exact N.2.1.2.2 q z
      · exact hL q z
  have hz : h_sz h ≤ h_sz h' := by
    have h1 := hF.1
    rw [e0] at h1
    have h2 := N.1.1
    have h3 := hO.1
    omega
  have hz0 : h_sz h0 ≤ h_sz h := by
    have h1 := N.2.1.1
    have h2 := N.1.1
    omega
  have hsl := N.2.2
  rw [show h_sz h - h_sz h0 + (h_sz h' - h_sz h) = h_sz h' - h_sz h0 by omega, show h_sl h - h_sl h0 + (h_sl h' - h_sl h) = h_sl h' - h_sl h0 by omega] at X'
  obtain ⟨t2, a1, b1⟩ := kk T'.heap (locs ++ L) ⟨by rw [e1]; exact hO, hS, Nat.le_trans hsl hle⟩ T' rfl X'
  exact ⟨t2, st t2 a1, b1⟩
end RNX
