set_option maxRecDepth 100000
theorem pg_len : ∀ (n : Nat) (l : List Nat), l.Nodup → (∀ x ∈ l, x < n) → l.length ≤ n := by
  intro n
  induction n with
  | zero =>
    intro l _ h
    cases l with
    | nil => simp
    | cons a t => exact absurd (h a List.mem_cons_self) (Nat.not_lt_zero _)
  | succ n ih =>
    intro l hn h
    by_cases hm : n ∈ l
    · have h1 := ih (l.erase n) (hn.erase n) (fun x hx => by
        have h2 := (List.Nodup.mem_erase_iff hn).mp hx
        have h3 := h x h2.2
        omega)
      have h4 := List.length_erase_of_mem hm
      have h5 : 0 < l.length := List.length_pos_of_mem hm
      omega
    · have h1 := ih l hn (fun x hx => by
        have h3 := h x hx
        have h4 : x ≠ n := fun e => hm (e ▸ hx)
        omega)
      omega
/-- the n-th superclass -/
def sp_ (vm : Vm) (c : ClassId) : Nat → Option ClassId
  | 0 => some c
  | n + 1 => (sp_ vm c n).bind fun x => vm.classes[x]?.bind (·.super)
theorem sp_shift (vm : Vm) (c : ClassId) {i j : Nat} (h : sp_ vm c i = sp_ vm c j) : ∀ d, sp_ vm c (i + d) = sp_ vm c (j + d) := by
  intro d
  induction d with
  | zero => exact h
  | succ d ih => show (sp_ vm c (i + d)).bind _ = (sp_ vm c (j + d)).bind _; rw [ih]
theorem sp_lt (vm : Vm) (c : ClassId) {n : Nat} {x : ClassId} (h : sp_ vm c (n + 1) = some x) : ∃ y, sp_ vm c n = some y ∧ y < vm.classes.size := by
  obtain ⟨y, h1, h2⟩ := Option.bind_eq_some_iff.mp h
  obtain ⟨k, h3, -⟩ := Option.bind_eq_some_iff.mp h2
  exact ⟨y, h1, (Array.getElem?_eq_some_iff.mp h3).1⟩
theorem sp_down (vm : Vm) (c : ClassId) {n : Nat} {x : ClassId} (h : sp_ vm c n = some x) : ∀ i, i < n → ∃ y, sp_ vm c i = some y ∧ y < vm.classes.size := by
  induction n generalizing x with
  | zero => intro i hi; omega
  | succ n ih =>
    intro i hi
    obtain ⟨y, h1, h2⟩ := sp_lt vm c h
    by_cases e : i = n
    · subst e; exact ⟨y, h1, h2⟩
    · exact ih h1 i (by omega)
theorem sp_in (vm : Vm) (c : ClassId) {x : ClassId} (h : sp_ vm c (vm.classes.size + 1) = some x) : ∃ i, i ≤ vm.classes.size ∧ sp_ vm c i = some x := by
  have hd := sp_down vm c h
  by_cases hn : ((List.range (vm.classes.size + 1)).map fun i => (sp_ vm c i).getD 0).Nodup
  · have := pg_len vm.classes.size _ hn (fun x hx => by
      obtain ⟨i, hi, rfl⟩ := List.mem_map.mp hx
      obtain ⟨y, h1, h2⟩ := hd i (List.mem_range.mp hi)
      rw [h1]; exact h2)
    simp only [List.length_map, List.length_range] at this
    omega
  · have : ∃ i j, i < j ∧ j < vm.classes.size + 1 ∧ (sp_ vm c i).getD 0 = (sp_ vm c j).getD 0 := by
      refine Classical.byContradiction fun hne => hn ?_
      rw [List.Nodup, List.pairwise_map, List.pairwise_iff_getElem]
      intro i j hi hj hij e
      simp only [List.length_range] at hi hj
      simp only [List.getElem_range] at e
      exact hne ⟨i, j, hij, hj, e⟩
    obtain ⟨i, j, hij, hj, e⟩ := this
    obtain ⟨y, h1, -⟩ := hd i (by omega)
    obtain ⟨z, h2, -⟩ := hd j hj
    rw [h1, h2] at e
    have hs := sp_shift vm c (h1.trans ((congrArg some (show y = z from e)).trans h2.symm)) (vm.classes.size + 1 - j)
    rw [show j + (vm.classes.size + 1 - j) = vm.classes.size + 1 by omega, h] at hs
    exact ⟨i + (vm.classes.size + 1 - j), by omega, hs⟩
theorem sp_mem (vm : Vm) : ∀ (n : Nat) (c : ClassId) (x : ClassId), x ∈ vm.superclassesAux n c → ∃ i, 1 ≤ i ∧ i ≤ n ∧ sp_ vm c i = some x := by
  have hs : ∀ (c q : ClassId), (vm.classes[c]?.bind (·.super)) = some q → ∀ i, sp_ vm c (i + 1) = sp_ vm q i := by
    intro c q hq i
    induction i with
    | zero => show (some c).bind _ = some q; rw [Option.bind_some]; exact hq
    | succ i ih => show (sp_ vm c (i + 1)).bind _ = (sp_ vm q i).bind _; rw [ih]
  intro n
  induction n with
  | zero => intro c x h; simp [Vm.superclassesAux] at h
  | succ n ih =>
    intro c x h
    unfold Vm.superclassesAux at h
    cases hq : vm.classes[c]?.bind (·.super) with
    | none => rw [hq] at h; simp at h
    | some q =>
      rw [hq] at h
      rcases List.mem_cons.mp h with rfl | h
      · exact ⟨1, by omega, by omega, (hs c x hq 0).trans rfl⟩
      · obtain ⟨i, h1, h2, h3⟩ := ih q x h
        exact ⟨i + 1, by omega, by omega, (hs c q hq i).trans h3⟩
theorem lk_none (vm : Vm) (name desc : String) : ∀ (n : Nat) (c : ClassId), lookupInSuperclasses vm name desc (n + 1) c = none → ∀ i x, i ≤ n → sp_ vm c i = some x → (vm.classes[x]?.bind (·.findMethod name desc)) = none := by
  have hs : ∀ (c q : ClassId), (vm.classes[c]?.bind (·.super)) = some q → ∀ i, sp_ vm c (i + 1) = sp_ vm q i := by
    intro c q hq i
    induction i with
    | zero => show (some c).bind _ = some q; rw [Option.bind_some]; exact hq
    | succ i ih => show (sp_ vm c (i + 1)).bind _ = (sp_ vm q i).bind _; rw [ih]
  have hnone : ∀ (c : ClassId), (vm.classes[c]?.bind (·.super)) = none → ∀ i, sp_ vm c (i + 1) = none := by
    intro c hq i
    induction i with
    | zero => show (some c).bind _ = none; rw [Option.bind_some]; exact hq
    | succ i ih => show (sp_ vm c (i + 1)).bind _ = none; rw [ih]; rfl
  have hown : ∀ (n : Nat) (c : ClassId), lookupInSuperclasses vm name desc (n + 1) c = none → (vm.classes[c]?.bind (·.findMethod name desc)) = none := by
    intro n c h
    unfold lookupInSuperclasses at h
    cases hk : vm.classes[c]? with
    | none => rfl
    | some k =>
      simp only [hk, Option.bind_eq_bind, Option.bind_some] at h
      cases hf : k.findMethod name desc with
      | some j => simp [hf] at h
      | none => simp [hf]
  intro n
  induction n with
  | zero =>
    intro c h i x hi hx
    rw [show i = 0 by omega] at hx
    cases hx
    exact hown _ _ h
  | succ n ih =>
    intro c h i x hi hx
    cases i with
    | zero => cases hx; exact hown _ _ h
    | succ i =>
      cases hq : vm.classes[c]?.bind (·.super) with
      | none => rw [hnone c hq i] at hx; cases hx
      | some q =>
        rw [hs c q hq i] at hx
        refine ih q ?_ i x (by omega) hx
        have h0 := hown _ _ h
        unfold lookupInSuperclasses at h
        obtain ⟨k, hk, hkq⟩ := Option.bind_eq_some_iff.mp hq
        simp only [hk, Option.bind_eq_bind, Option.bind_some] at h h0
        simpa only [h0, hkq, Option.bind_some] using h
theorem si_none (vm : Vm) (mR : MethodId) (name desc : String) : ∀ (n : Nat) (c : ClassId), lookupInSuperclasses vm name desc n c = none → selectInSuperclasses vm mR name desc n c = none := by
  intro n
  induction n with
  | zero => intro c _; rfl
  | succ n ih =>
    intro c h
    unfold lookupInSuperclasses at h
    unfold selectInSuperclasses
    cases hk : vm.classes[c]? with
    | none => rfl
    | some k =>
      simp only [hk, Option.bind_eq_bind, Option.bind_some] at h ⊢
      cases hf : k.findMethod name desc with
      | some j => simp [hf] at h
      | none =>
        simp only [hf] at h
        cases hs : k.super with
        | none => simp
        | some q =>
          simp only [hs, Option.bind_some] at h
          simpa using ih q h
/-- where no class of the chain declares the method, the lookup for super.m() finds what selection finds -/
theorem lsp_ {vm : Vm} {c : ClassId} {name desc : String} {r m : MethodId} {rm : Method} {p : Platform} (hl : lookupInSuperclasses vm name desc (vm.classes.size + 1) c = none) (hrm : vm.method? r = some rm) (hn : rm.name = name) (hd : rm.desc = desc) (hnp : rm.isPrivate = false)
    (hsel : selectMethod p vm c r = .method m) : lookupSpecial vm c name desc = .method m := by
  have hall : ∀ i x, i ≤ vm.classes.size → sp_ vm c i = some x → (vm.classes[x]?.bind (·.findMethod name desc)) = none := lk_none vm name desc _ c hl
  have hown : (vm.classes[c]?.bind (·.findMethod name desc)) = none := hall 0 c (by omega) rfl
  have hsm : superclassMethods vm c name desc = [] := by
    unfold superclassMethods
    rw [List.filterMap_eq_nil_iff]
    intro x hx
    obtain ⟨i, h1, h2, h3⟩ := sp_mem vm _ c x hx
    rcases Nat.lt_or_ge vm.classes.size i with h4 | h4
    · rw [show i = vm.classes.size + 1 by omega] at h3
      obtain ⟨j, h5, h6⟩ := sp_in vm c h3
      rw [hall j x h5 h6]; rfl
    · rw [hall i x h4 h3]; rfl
  have hsi := si_none vm r name desc _ c hl
  have href : refusedOverriding p vm c name desc = false := by
    unfold refusedOverriding
    simp [hown, hsm]
  unfold selectMethod at hsel
  subst hn; subst hd
  simp only [hrm, hnp, href, hsi, Bool.false_and, Bool.false_eq_true, if_false] at hsel
  unfold lookupSpecial
  simp only [hown, hsm, Option.map_none, Option.toList_none, List.filter_nil, List.nil_append, List.find?_nil]
  exact hsel
theorem lsi_np {vm : Vm} {c : ClassId} {name desc : String} {m : MethodId} {mm : Method} (h : lookupInSuperinterfaces vm c name desc = some m) (hm : vm.method? m = some mm) : mm.isPrivate = false := by
  have hin : m ∈ superinterfaceMethods vm c name desc := by
    unfold lookupInSuperinterfaces at h
    split at h
    · rename_i m' he
      cases h
      have h1 : m ∈ (maximallySpecific vm c name desc).filter fun m => (vm.method? m).any (!·.isAbstract) := by rw [he]; exact List.mem_cons_self
      have h2 := (List.mem_filter.mp h1).1
      exact (List.mem_filter.mp h2).1
    · obtain ⟨i, -, hi⟩ := List.exists_of_findSome?_eq_some h
      exact List.mem_of_find?_eq_some hi
  obtain ⟨i, -, hi⟩ := List.mem_filterMap.mp hin
  simp only [Option.bind_eq_bind, Option.bind_eq_some_iff] at hi
  obtain ⟨k, -, idx, -, y, hy, hi⟩ := hi
  by_cases hp : (y.isPrivate || y.isStatic) = true
  · rw [if_pos hp] at hi; cases hi
  · rw [if_neg hp] at hi
    cases hi
    cases hy.symm.trans hm
    simp only [Bool.or_eq_true, not_or, Bool.not_eq_true] at hp
    exact hp.1
section RNZ
variable {p : Program} {l : Launch} {e : Env} {R : Room} {s : State} {m : MethodId} {args : Array Value} {below : List Frame} {meth : Method} {c : Code} {H : Heap} {locs : List Loc} {Q : State → Prop}
variable {cc : ByteArray} {nL : Nat} {ret : Option FieldType} {own : String} {k : kc_T} {G : gx_T} {h0 h h' : hp_T} {fr lo : Nat} {pc : Nat} {ls : Array Slot} {rest : List Value}
variable {bytes : ByteArray} {maxL index fr' lo' : Nat} {r0 : Option FieldType} {v : Option Value} {As : List Value} {b : Nat}
/-- super.x() that lands in an interface's default -/
theorem run_PD (C : cx_ p l R s m args meth c cc nL ret own k G h0 fr lo) (N : nw_ k G s h0 h H locs) {ci : Nat} {sup owner nm ds : String} (hM : ct_ l ⟨owner, nm, ds⟩ (ws_ ⟨owner, nm, ds⟩ bytes maxL r0) fr' lo' k G (.ref b :: As) h v h') (hcl : cls_ k h (some b) = some ci)
    (q1 : Cond.methodLink own index ⟨sup, nm, ds⟩ ∈ dw_L) (q6 : Cond.sameMethod sup owner nm ds ∈ dw_L) (q7 : Cond.superclass own sup ∈ lw_all) (q2 : Cond.instanceMethod ⟨owner, nm, ds⟩ ∈ lw_all) (hld : (Cond.landsInDefault sup ⟨sup, nm, ds⟩ ⟨owner, nm, ds⟩).before #[] s = true) (q5 : Cond.code ⟨owner, nm, ds⟩ bytes maxL r0 ∈ lw_all) (hno : nm ≠ "<init>")
    {n : Nat} (hn : As.length = n) (hd : (parseMethodDescriptor ds).map (fun d => d.parameters.length) = some n) (hR : fr' + 1 ≤ fr ∧ 8 + (maxL + 11) + lo' ≤ lo) (hsize : ls.size = nL) (hW : (rest.map fun v => v.category).sum ≤ 8) (hdg : decode cc pc = .ok (.invokespecial index, 3)) :
    va_Run p l e R s m args below meth c H locs (h_sz h - h_sz h0) (h_sl h - h_sl h0) (h_sz h' - h_sz h) (h_sl h' - h_sl h) (F0 m pc ls (As.reverse ++ .ref b :: rest)) rest (cq_ k G h v h' (.ref b :: As).toArray) (ax_ k) := by
  have hK := bk_ct (e := e) (below := below) (len := 3) C hM q5 hR
  have hC := C
  obtain ⟨hx, hb, hml, -, -, hown, hts, K, hs0, -⟩ := C
  obtain ⟨cellB, hcB, hoB, hclB⟩ := recv_ N K hcl
  obtain ⟨kB, hkB, -⟩ := Vm.findClass_spec hclB
  have hY : NY_ s := K.2.2.2.1.2.1.2.2.2.2
  have hlink : (Cond.methodLink own index ⟨sup, nm, ds⟩).before args s = true := va_tabs rfl rfl (hY.1 _ q1)
  have hsame : (Cond.sameMethod sup owner nm ds).before args s = true := va_tabs rfl rfl (hY.1 _ q6)
  obtain ⟨mk, methM, hnamed, hmethM, hstM, hsigM⟩ := va_Decl.of (hts _ q2) (hts _ q5)
  obtain ⟨mk2, methM2, hnamed2, hmethM2, -, habM⟩ := Cond.instanceMethod_spec (hts _ q2)
  cases hnamed.symm.trans hnamed2
  cases hmethM.symm.trans hmethM2
  obtain ⟨cn, ck, r1, hcn, hck, hni, hf, hn1⟩ := Cond.sameMethod_found hsame
  cases hnamed.symm.trans hn1
  obtain ⟨ps, dk, kp, hps, hdk, hkp, hsuper, -, -, hnid⟩ := Cond.superclass_spec hown (hts _ q7)
  cases hcn.symm.trans hps
  obtain ⟨c2, r2, m2, rm, w1, w2, w3, w5, w4, -, -, -⟩ := ld_spec hld
  cases hcn.symm.trans w1
  cases hf.symm.trans w2
  cases hnamed.symm.trans w3
  cases hmethM.symm.trans w5
  obtain ⟨hrn, hrd⟩ := name_of_methodNamed hnamed hmethM
  obtain ⟨kr, hkr, -⟩ := className_of_methodNamed hnamed
  intro T hT X
  have hpl : e.platform.magicAccessors = ({} : Platform).magicAccessors := by rw [X.admits.platform]
  obtain ⟨cix, hl, hright⟩ := Cond.methodLink_specUp hown hcn hck hni hf hlink e.platform hpl (by rw [X.admits.platform])
  obtain ⟨dk₀, cfile, nt, _, _, ck₀, _, _, hd₀, hcf, hcp, -, -, -, hc₀, -, hpoly, -⟩ := hl.here
  cases hdk.symm.trans hd₀
  cases hck.symm.trans hc₀
  have hup : s.vm.lookupUp cn nm ds = some mk := ((State.methodFound?_class hcn hck hni hpoly mk).mp hf).1
  have hfound : lookupSpecial s.vm cn nm ds = .method mk := by
    cases hlk : lookupInSuperclasses s.vm nm ds (s.vm.classes.size + 1) cn with
    | some z => exact lookupSpecial_of_lookupUp hck hni hup (by rw [hlk]; rfl) hmethM hstM
    | none =>
      have hi : lookupInSuperinterfaces s.vm cn nm ds = some mk := by
        unfold Vm.lookupUp at hup
        rw [hlk] at hup
        simpa using hup
      exact lsp_ hlk hmethM hrn hrd (lsi_np hi hmethM) w4
  have hd2 := hd
  rw [show parseMethodDescriptor ds = some methM.sig from hsigM] at hd2
  obtain ⟨vm₁, hW₁, hstep₁⟩ := Steps.invokeSuperColdArgs (tb := p.tables) (e := e) (s₀ := s) (U := T) (f := F0 m pc ls (As.reverse ++ .ref b :: rest)) (args := As) (rest := rest) (a := b) (cell := cellB) (m := mk) X.here hx (by rw [hb]; exact hdg) X.warmed hl hright hdk hcf hcp hmethM hck
    (by rw [hrn]; simp [hno]) hstM (by rw [hrn, hrd, hsuper]; simpa using hfound) hnid hkr habM (hn.trans (Option.some.inj hd2).symm) rfl (by rw [hT]; exact hcB) (fun z h => by rw [h] at hoB; cases hoB) hkB
  have X₁ := X.noted hW₁
  obtain ⟨v', ⟨U', l2, c2, s2⟩, X', ⟨g', mk', t, L, e1, e2, hq, h1, hL, h2, h3⟩, hsteps⟩ := hK m meth c ⟨T.setVm vm₁, locs, h_sz h - h_sz h0, h_sl h - h_sl h0⟩ { F0 m pc ls (As.reverse ++ .ref b :: rest) with stack := rest } (.invokespecial index) mk (Value.ref b :: As).toArray X₁ rfl (hsize.trans hml.symm) (by rw [hb]; exact hdg) (lv_room (m := m) (pc := pc) (ls := ls) (rest := As.reverse ++ .ref b :: rest) hW) (X₁.named hnamed) (pre_ct hC N hT vm₁ X₁.warmed)
  dsimp only [Pt.U, Pt.locs, Pt.cells, Pt.slots] at X' e1 e2 h1 h2 h3 hsteps
  subst h1; subst h2; subst h3
  exact ⟨v', (T.setVm vm₁).calling g' mk' (Value.ref b :: As).toArray, t, U', L, hT, X', hL, e1, e2, hq, fun target h => hstep₁ _ (by rw [doInvoke_state]; exact hsteps.trans h)⟩
end RNZ
