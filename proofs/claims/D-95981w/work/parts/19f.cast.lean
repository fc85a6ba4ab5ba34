set_option maxRecDepth 100000
/-! casts that fail; methods with a handler -/
/-- a cast: it comes through, or the machine throws -/
def cstT_ (k : kc_T) (h : hp_T) (r : Option Nat) (cs ns : List Nat) (x : Option ((Nat ⊕ Option Nat) × hp_T)) : Option ((Nat ⊕ Option Nat) × hp_T) := match r, cls_ k h r with
  | some _, some ci => if ci ∈ cs then x else if ci ∈ ns ∧ h_sz h + 3 ≤ k_lc k ∧ h_sl h + 1000 ≤ k_ls k then some (.inl (h_sz h + 2), (h.1, h_sz h + 3, h_sl h + 1000)) else none
  | _, _ => none
theorem cstT_some {k : kc_T} {h h9 : hp_T} {r : Option Nat} {cs ns : List Nat} {x : Option ((Nat ⊕ Option Nat) × hp_T)} {r9 : Nat ⊕ Option Nat} (e : cstT_ k h r cs ns x = some (r9, h9)) :
    ∃ a ci, r = some a ∧ cls_ k h (some a) = some ci ∧ ((ci ∈ cs ∧ x = some (r9, h9)) ∨ (ci ∈ ns ∧ (h_sz h + 3 ≤ k_lc k ∧ h_sl h + 1000 ≤ k_ls k) ∧ r9 = .inl (h_sz h + 2) ∧ h9 = (h.1, h_sz h + 3, h_sl h + 1000))) := by
  unfold cstT_ at e
  split at e
  · next a ci hc =>
    refine ⟨a, ci, rfl, hc, ?_⟩
    split at e
    · next h1 => exact Or.inl ⟨h1, e⟩
    · split at e
      · next h2 =>
        cases e
        exact Or.inr ⟨h2.1, h2.2, rfl, rfl⟩
      · cases e
  · cases e
theorem ct_ofE {E : String} {l : Launch} {y : MethodName} {ws : List Cond} {fr lo : Nat} {k : kc_T} {G : gx_T} {av : List Value} {h : hp_T} {v : Option Value} {h' : hp_T} (hM : ctE_ E l y ws fr lo k G av h (.returned v) h') : ct_ l y ws fr lo k G av h v h' := by
  intro p e ha hc hk s m args below hf happ hP
  obtain ⟨n, o, h1, h2, h3, h4⟩ := hM p e ha hc hk s m args below hf happ hP
  exact ⟨n, o, h1, h2, h3, h4.1⟩
theorem wsW_is {y : MethodName} {cc : ByteArray} {maxL : Nat} {ret : Option FieldType} {hh : List (Nat × Nat × Nat × Nat)} (args : Array Value) (s : State) (m : MethodId) (h : (allAtoms (wsW_ y cc maxL ret hh)).before args s = true) (hn : s.methodNamed? y = some m) : ∃ meth c, s.vm.method? m = some meth ∧ meth.code = some c ∧ c.code = cc ∧ c.maxLocals = maxL ∧ meth.sig.returnType = ret ∧ meth.locks = false := by
  obtain ⟨m', meth, c, hn', h1, h2, h3, h4, -, h5, h6, -⟩ := Cond.codeWith_spec (atoms_spec (ws := wsW_ y cc maxL ret hh) h _ List.mem_cons_self)
  cases hn.symm.trans hn'
  exact ⟨meth, c, h1, h2, h3, h4, h5, h6⟩
theorem ctW_of {l : Launch} {y : MethodName} {fr lo : Nat} {k : kc_T} {G : gx_T} {av : List Value} {h0 : hp_T} {v : Option Value} {h' : hp_T} {cc : ByteArray} {maxL : Nat} {ret : Option FieldType} (x : ExceptionTableEntry) (hy : plainFor y = true) (hlen : (lg_sl av).length ≤ maxL)
    (body : ∀ p e s m below meth c ls, cx_ p l (rm_ k h0 fr lo) s m av.toArray meth c cc maxL ret y.cls k G h0 fr lo → meth.name = y.name → c.exceptionTable.toList = [x] → nw_ k G s h0 h0 s.heap [] → lv_has ls maxL (lv_args 0 av) →
      W p l e (rm_ k h0 fr lo) s m av.toArray below meth c s.heap [] (h_sz h0 - h_sz h0) (h_sl h0 - h_sl h0) (mq_ below k G h0 v h' av.toArray s) (F0 m 0 ls [])) : ct_ l y (wsW_ y cc maxL ret [(x.startPc, x.endPc, x.handlerPc, x.catchType)]) fr lo k G av h0 v h' := by
  refine NM_ofW (cc := cc) (maxL := maxL) (ret := ret) hy wsW_is ?_
  intro p e s m args below meth c hx hb hml hr hlocks hcode hname hmeth hpre hv
  obtain ⟨rfl, hO, K⟩ := hv
  have hts0 := atoms_spec (ws := wsW_ y cc maxL ret [(x.startPc, x.endPc, x.handlerPc, x.catchType)]) hpre
  have hts : ∀ w ∈ lw_all, w.before _ s = true := fun w h => hts0 w (List.mem_cons_of_mem _ h)
  obtain ⟨m', meth', c', hn', g1, g2, -, -, htab, -, -, -⟩ := Cond.codeWith_spec (hts0 _ List.mem_cons_self)
  cases hname.symm.trans hn'
  cases hmeth.symm.trans g1
  cases hcode.symm.trans g2
  have hem : c.exceptionTable.toList = [x] := by
    revert htab
    generalize c.exceptionTable.toList = tl
    intro htab
    rcases tl with _ | ⟨z, _ | ⟨w, tl⟩⟩
    · cases htab
    · rcases z with ⟨z1, z2, z3, z4⟩
      rcases x with ⟨x1, x2, x3, x4⟩
      simp only [List.map_cons, List.map_nil, List.cons.injEq, Prod.mk.injEq, and_true] at htab
      obtain ⟨rfl, rfl, rfl, rfl⟩ := htab
      rfl
    · simp at htab
  have hl := lv_entry av (n := maxL) hlen
  have b := body p e s m below meth c _ ⟨hx, hb, hml, hr, hlocks, findClass_of_methodNamed hname, hts, K, hO.1, rfl⟩ (name_of_methodNamed hname hmeth).1 hem ⟨hO, va_S.rf, Nat.le_refl _⟩ hl
  rw [Nat.sub_self, Nat.sub_self] at b
  rw [lg_entry_eq]
  exact W_mono (fun _ => mq_mt) b
section VC
variable {p : Program} {l : Launch} {e : Env} {R : Room} {s : State} {m : MethodId} {args : Array Value} {below : List Frame} {meth : Method} {c : Code}
variable {cc : ByteArray} {nL : Nat} {ret : Option FieldType} {own : String} {k : kc_T} {G : gx_T} {h0 : hp_T} {fr lo : Nat} {pc : Nat} {ls : Array Slot} {rest : List Value}
theorem mr_modules {s U : State} (hW : s.WarmedH U.vm) : U.vm.modules = s.vm.modules := by
  have := hW.alike.1
  rw [this]
/-- checkcast of an object that is none such -/
theorem r_cce0 (C : cx_ p l R s m args meth c cc nL ret own k G h0 fr lo) (N : nw_ k G s h0 h0 s.heap []) (hfl : hy_ l G) (hem : c.exceptionTable.toList = []) {a ci index : Nat} {nm : String} (hcl : cls_ k h0 (some a) = some ci) (hnc : (cn_ ci, nm) ∈ nc_L) (hlink : Cond.classLink own index nm ∈ lw_all)
    (hla : (cn_ ci).toList.length ≤ 24) (hlb : nm.toList.length ≤ 24) (hda : dotted (cn_ ci) = cn_ ci) (hdb : dotted nm = nm) (hpa : castPackages_1.any (fun p => p == packageOf (cn_ ci)) = true) (hpb : castPackages_1.any (fun p => p == packageOf nm) = true)
    (hlim : h_sz h0 + 3 ≤ k_lc k ∧ h_sl h0 + 1000 ≤ k_ls k) (hR : 7 < fr ∧ 10260 ≤ lo) (hsize : ls.size = nL) (hrest : (rest.map fun v => v.category).sum ≤ 8) (hdg : decode cc pc = .ok (.checkcast index, 3)) :
    W p l e R s m args below meth c s.heap [] (h_sz h0 - h_sz h0) (h_sl h0 - h_sl h0) (me_ "java/lang/ClassCastException" below k G h0 (.threw (h_sz h0 + 2)) (h0.1, h_sz h0 + 3, h_sl h0 + 1000) args s) (F0 m pc ls (.ref a :: rest)) := by
  obtain ⟨hx, hb, hml, -, hlk, hown, hts, K, hs0, rfl⟩ := C
  obtain ⟨cell, g1, g2, g3⟩ := recv_ N K hcl
  obtain ⟨c1, cT, hc1, hcT, hno⟩ := K.2.2.2.1.2.1.2.2.2.1 _ hnc
  cases g3.symm.trans hc1
  intro T1 hT X
  have hpl : e.platform.magicAccessors = ({} : Platform).magicAccessors := by rw [X.admits.platform]
  obtain ⟨c', hc', hcl'⟩ := Cond.classLink_spec hown (hts _ hlink) e.platform hpl
  cases hcT.symm.trans hc'
  obtain ⟨dk, _, _, kt, hd, _, _, _, _, hkt, _, hopen⟩ := hcl'.here
  have hcl₀ := X.warmed.classLinks hcl'
  have hW' : s.WarmedH (T1.vm.noted m.cls index (.cls cT)) := X.warmed.noted hd hopen (State.rightAt_cls hcl')
  obtain ⟨ks, hks⟩ := Vm.classAt_of_findClass g3
  obtain ⟨ks', hks', eks⟩ := hW'.alike.2.2 _ _ hks
  obtain ⟨kt', hkt', ekt⟩ := hW'.alike.2.2 _ _ hkt
  obtain ⟨s1, s2, s3⟩ := fc_facts g3 hks
  obtain ⟨t1, t2, t3⟩ := fc_facts hcT hkt
  have s1' : ks'.name = cn_ ci := by rw [eks]; exact s1
  have s2' : ks'.hidden = none := by rw [eks]; exact s2
  have s3' : ks'.loader = none := by rw [eks]; exact s3
  have t1' : kt'.name = nm := by rw [ekt]; exact t1
  have t2' : kt'.hidden = none := by rw [ekt]; exact t2
  have t3' : kt'.loader = none := by rw [ekt]; exact t3
  have X2 := X.noted hW'
  have hmod := hfl.2 s K.2.2.2.1.1
  have hmm : (T1.vm.noted m.cls index (.cls cT)).modules = s.vm.modules := mr_modules (U := T1.setVm (T1.vm.noted m.cls index (.cls cT))) hW'
  obtain ⟨xa, hxa⟩ := hm_home hmod hmm s3' (by rw [s1']; exact hpa)
  obtain ⟨xb, hxb⟩ := hm_home hmod hmm t3' (by rw [t1']; exact hpb)
  have sh1 : ks'.shown = cn_ ci := by unfold Class.shown; rw [s2', s1']; exact hda
  have sh2 : kt'.shown = nm := by unfold Class.shown; rw [t2', t1']; exact hdb
  have htext : checkcast.message (T1.vm.noted m.cls index (.cls cT)) ks' kt' = tx_ (cn_ ci) nm ((T1.vm.noted m.cls index (.cls cT)).sameModule ks' kt') xa xb := by
    unfold checkcast.message Vm.homes
    rw [hxa, hxb, sh1, sh2]
    unfold tx_
    rfl
  have hroom := lv_room (m := m) (pc := pc) (ls := ls) (rest := .ref a :: rest) hrest
  have hby := tx_bytes hla hlb ((T1.vm.noted m.cls index (.cls cT)).sameModule ks' kt') xa xb
  obtain ⟨U, h1, hrun, hend, hWU, ⟨n, hn, hsm⟩, cb, cs, ce, -, -, hce, -, -, NC⟩ := X2.messageArmCells hx (vt_flags X.admits hfl.1) (cls := "java/lang/ClassCastException") (names := ["java/lang/RuntimeException", "java/lang/Exception"]) (text := tx_ (cn_ ci) nm ((T1.vm.noted m.cls index (.cls cT)).sameModule ks' kt') xa xb)
    (by decide +kernel) (by decide +kernel) (by decide +kernel) (by decide +kernel) (at_cceArm hts K) (fun x hx _ _ => absurd hx List.not_mem_nil) (tx_mod _ _ _ _ _) (by rw [Launch.admits_arrayLengthLimit X.admits]; omega) (by rw [Launch.admits_maxHeapBytes X.admits]; show ¬ _ * 1 > 536870912; omega)
    (g := F0 m pc ls (.ref a :: rest)) rfl (hsize.trans hml.symm) rfl rfl (by rw [hem]; intro x hx; cases hx) (by show 2 + 4 < fr; omega) (by show 2 * (F0 m pc ls (.ref a :: rest)).monitorRoom + (((Value.ref a) :: rest).map fun v => v.category).sum + 10240 ≤ lo; simp only [List.map_cons, List.sum_cons]; have : (Value.ref a).category = 1 := rfl; omega) (by show 13 * 2 + 55 ≤ 10240; omega)
    (by show h_sz h0 - h_sz h0 + 3 ≤ k_lc k - h_sz h0; omega) (by show h_sl h0 - h_sl h0 + (_ + 4 + 6) ≤ k_ls k - h_sl h0; omega) hlk
  have ez : (T1.setVm (T1.vm.noted m.cls index (.cls cT))).heap.size = h_sz h0 := by show T1.heap.size = _; rw [hT, hs0]
  rw [ez] at hend hce
  rw [Nat.sub_self, Nat.zero_add] at hsm
  rw [Nat.sub_self, Nat.zero_add] at hn
  refine ⟨U, ?_, en_thr N.1 hrun hend hWU (by omega) hsm hlim ?_ ⟨ce, hce, by rw [NC.vm]; rfl, NC.cls⟩⟩
  · jvm_step X.here [hx, hb, hdg, checkcast.wp_cold (e := e) (s := T1) (f := F0 m pc ls (.ref a :: rest)) X.here.top rfl (resolveClass_links e.toSetting hcl₀) hcl₀.ready,
      checkcast.wp_ready (e := e) (s := T1.setVm (T1.vm.noted m.cls index (.cls cT))) (f := F0 m pc ls (.ref a :: rest)) X.here.top hcl₀.ready rfl]
    refine ⟨cell, by rw [hT]; exact g1, VmData.ne_statics_of g2, ks', hks', kt', hkt', ?_⟩
    rw [if_neg (by rw [hW'.alike.assignable, hno]; decide), htext]
    exact h1
  · have := (Array.getElem?_eq_some_iff.mp hce).1
    omega
end VC
