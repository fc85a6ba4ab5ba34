set_option maxRecDepth 100000
/-! contracts, returns, calls -/
def cq_ (k : kc_T) (G : gx_T) (h0 : hp_T) (v : Option Value) (h' : hp_T) : Array Value → State → Outcome → State → Prop := fun _ st oc t => oc = .returned v ∧ hp_ok k G h' t.heap ∧ va_F (ax_ k) st t ∧ h_sl h0 ≤ h_sl h'
def cp_ (k : kc_T) (G : gx_T) (av : List Value) (h : hp_T) : Array Value → State → Prop := fun a U => a = av.toArray ∧ hp_ok k G h U.heap ∧ KK_ k G U U.heap
abbrev rm_ (k : kc_T) (h : hp_T) (fr lo : Nat) : Room := { frames := fr, cells := k_lc k - h_sz h, slots := k_ls k - h_sl h, locals := lo }
/-- a contract that does not ask whether the method's class is initialised, and says of either outcome -/
def NM_ (l : Launch) (y : MethodName) (ws : List Cond) (rm : Room) (P : Array Value → State → Prop) (Q : Array Value → State → Outcome → State → Prop) : Prop :=
  ∀ (p : Program) e, l.admits e → FairCas e.choices → FairClock e.choices → ∀ s m args below, s.frames = .invoking m args :: below →
    (s.status = .running ∧ s.curStatus? = some .runnable ∧ s.alone = true ∧ s.methodNamed? y = some m ∧ s.hears m below = true ∧ s.hasRoom e.platform rm = true ∧ (allAtoms ws).before args s = true) → P args s →
    ∃ n o, (∀ k, k < n → Within (stepsAlone p.tables e k s) below) ∧ (stepsAlone p.tables e n s).status = .running ∧ Ended (stepsAlone p.tables e n s) below o ∧ Q args s o (stepsAlone p.tables e n s)
def qo_ (k : kc_T) (G : gx_T) (h0 : hp_T) (o : Outcome) (h' : hp_T) : Array Value → State → Outcome → State → Prop := fun _ st oc t =>
  oc = o ∧ hp_ok k G h' t.heap ∧ va_F (ax_ k) st t ∧ h_sl h0 ≤ h_sl h' ∧ st.WarmedH t.vm ∧ ∃ L, st.sameButNew ({ t with vm := st.vm } : State) L (h_sz h' - h_sz h0) (h_sl h' - h_sl h0) ∧ ∀ q ∈ L, ax_ k q.base
/-- the method y, called with av on the heap h, ends with the outcome o and leaves the heap h' -/
def ctO_ (l : Launch) (y : MethodName) (ws : List Cond) (fr lo : Nat) (k : kc_T) (G : gx_T) (av : List Value) (h : hp_T) (o : Outcome) (h' : hp_T) : Prop :=
  NM_ l y ws (rm_ k h fr lo) (cp_ k G av h) (qo_ k G h o h')
/-- the method y, called with av on the heap h, returns v and leaves the heap h' -/
def ct_ (l : Launch) (y : MethodName) (ws : List Cond) (fr lo : Nat) (k : kc_T) (G : gx_T) (av : List Value) (h : hp_T) (v : Option Value) (h' : hp_T) : Prop :=
  ctO_ l y ws fr lo k G av h (.returned v) h'
theorem cp_blind {k : kc_T} {G : gx_T} {av : List Value} {h : hp_T} : FrameBlind (cp_ k G av h) := by
  intro a U g mk q
  obtain ⟨q0, q1, K⟩ := q
  exact ⟨q0, q1, KK_moved (u := U) (U := U.calling g mk a) (State.WarmedH.refl U) K⟩
abbrev mq_ (below : List Frame) (k : kc_T) (G : gx_T) (h0 : hp_T) (v : Option Value) (h' : hp_T) (args : Array Value) (s : State) : State → Prop :=
  MQ below (cq_ k G h0 v h') args s (h_sz h' - h_sz h0) (h_sl h' - h_sl h0) (ax_ k)
abbrev mt_ (below : List Frame) (k : kc_T) (G : gx_T) (h0 : hp_T) (o : Outcome) (h' : hp_T) (args : Array Value) (s : State) : State → Prop := fun t => ∃ oc, t.status = .running ∧ Ended t below oc ∧ qo_ k G h0 o h' args s oc t
theorem NM_ofW {l : Launch} {y : MethodName} {ws : List Cond} {rm : Room} {P : Array Value → State → Prop} {Q : Array Value → State → Outcome → State → Prop} {cc : ByteArray} {maxL : Nat} {ret : Option FieldType} (hy : plainFor y = true)
    (his : ∀ args (s : State) m, (allAtoms ws).before args s = true → s.methodNamed? y = some m → ∃ meth c, s.vm.method? m = some meth ∧ meth.code = some c ∧ c.code = cc ∧ c.maxLocals = maxL ∧ meth.sig.returnType = ret ∧ meth.locks = false)
    (body : ∀ p e s m args below meth c, p.tables.exec = Jvm.exec → c.code = cc → c.maxLocals = maxL → meth.sig.returnType = ret → meth.locks = false → meth.code = some c → s.methodNamed? y = some m → s.vm.method? m = some meth → (allAtoms ws).before args s = true → P args s →
      W p l e rm s m args below meth c s.heap [] 0 0 (fun t => ∃ oc, t.status = .running ∧ Ended t below oc ∧ Q args s oc t) (entryFrame m args maxL)) : NM_ l y ws rm P Q := by
  intro p e ha hc hk s m args below hf happ hP
  obtain ⟨hrun, hable, halone, hname, hhears, hroom, hpre⟩ := happ
  obtain ⟨meth, c, hmeth, hcode, hbytes, hlocals, hret, hlocks⟩ := his args s m hpre hname
  have hcur := State.cur_lt_of_frames hf
  have hf1 : (s.setFrames (.java (entryFrame m args maxL) :: below)).frames = .java (entryFrame m args maxL) :: below :=
    State.frames_setFrames _ hcur
  have ht1 := State.topJava?_of_frames hf1
  have hplain : (s.setFrames (.java (entryFrame m args maxL) :: below)).plainMethod m := State.plainMethod.of_named (s := s) hy hname hmeth
  have hAt : At (s.setFrames (.java (entryFrame m args maxL) :: below)) m c below :=
    ⟨by rw [ht1]; rfl, ⟨[], by rw [hf1]; rfl⟩, hrun, by simpa using hable, by simpa using halone,
      by rw [State.code?_eq]; simp [State.setFrames, hmeth, hcode], hplain⟩
  have hstep : (stepThread p.tables e s).1 = (s.setFrames (.java (entryFrame m args maxL) :: below)).setTop (entryFrame m args maxL) := by
    have hfull : e.platform.stackFull (s.setFrames below).me (s.setFrames below).frames c.maxLocals = false := by
      obtain ⟨-, h1, -, h2⟩ := State.hasRoom_stack hroom
      rw [hf, List.length_cons] at h1
      rw [State.localsInUse_invoking hf hmeth hcode] at h2
      have hw := stackUse_le_stackWeight below
      rw [State.frames_setFrames _ hcur]
      exact Platform.stackFull_eq_false (by rw [State.stackLimits_setFrames]; omega) (by rw [State.stackLimits_setFrames]; omega)
    rw [stepThread_invoking hf, (doInvoke_java (s := s.setFrames below) (e := e) (meth := meth) (code := c) hmeth hcode hlocks hfull).1, State.setTop_self ht1]
    simp only [State.pushFrame, State.frames_setFrames _ hcur, State.setFrames_setFrames, hlocals, entryFrame]
  obtain ⟨t, ht, -⟩ := State.frames_cons hf
  have X : Stand p l e rm s m args below meth c (s.setFrames (.java (entryFrame m args maxL) :: below)) [] 0 0 :=
    ⟨ha, hc, hk, hf, hroom, hhears, hmeth, hcode, hAt, by rw [hf1]; rfl, State.WarmedH.refl s, by rw [State.stackLimits_setFrames], by rw [State.stackBytes_setFrames], (State.sameButNew.refl s ht).setFrames (.java (entryFrame m args maxL) :: below) hcur⟩
  obtain ⟨s₂, hs, o, hr, he, hp⟩ := body p e s m args below meth c (by cases p <;> rfl) hbytes hlocals hret hlocks hcode hname hmeth hpre hP (s.setFrames (.java (entryFrame m args maxL) :: below)) rfl X
  obtain ⟨n, hn, hw⟩ := Steps.head (tb := p.tables) (e := e) ⟨hrun, hable, halone⟩ ⟨[.invoking m args], hf, by simp, by simp⟩ (hstep ▸ hs)
  exact ⟨n, o, hw, hn ▸ hr, hn ▸ he, hn ▸ hp⟩
theorem ws_is {y : MethodName} {cc : ByteArray} {maxL : Nat} {ret : Option FieldType} (args : Array Value) (s : State) (m : MethodId) (h : (allAtoms (ws_ y cc maxL ret)).before args s = true) (hn : s.methodNamed? y = some m) : ∃ meth c, s.vm.method? m = some meth ∧ meth.code = some c ∧ c.code = cc ∧ c.maxLocals = maxL ∧ meth.sig.returnType = ret ∧ meth.locks = false := by
  obtain ⟨meth, c, h1, h2, h3, h4, h5, h6, -, -⟩ := Cond.code_spec hn (atoms_spec (ws := ws_ y cc maxL ret) h _ List.mem_cons_self)
  exact ⟨meth, c, h1, h2, h3, h4, h5, h6⟩
/-- from a walk of the body, whatever its outcome -/
theorem ctO_of {l : Launch} {y : MethodName} {fr lo : Nat} {k : kc_T} {G : gx_T} {av : List Value} {h0 : hp_T} {o : Outcome} {h' : hp_T} {cc : ByteArray} {maxL : Nat} {ret : Option FieldType} (hy : plainFor y = true) (hlen : (lg_sl av).length ≤ maxL)
    (body : ∀ p e s m below meth c ls, cx_ p l (rm_ k h0 fr lo) s m av.toArray meth c cc maxL ret y.cls k G h0 fr lo → meth.name = y.name → meth.code = some c → nw_ k G s h0 h0 s.heap [] → lv_has ls maxL (lv_args 0 av) →
      W p l e (rm_ k h0 fr lo) s m av.toArray below meth c s.heap [] (h_sz h0 - h_sz h0) (h_sl h0 - h_sl h0) (mt_ below k G h0 o h' av.toArray s) (F0 m 0 ls [])) : ctO_ l y (ws_ y cc maxL ret) fr lo k G av h0 o h' := by
  refine NM_ofW (cc := cc) (maxL := maxL) (ret := ret) hy ws_is ?_
  intro p e s m args below meth c hx hb hml hr hlocks hcode hname hmeth hpre hv
  obtain ⟨rfl, hO, K⟩ := hv
  have hts := atoms_spec (ws := ws_ y cc maxL ret) hpre
  have hts : ∀ w ∈ lw_all, w.before _ s = true := fun w h => hts w (List.mem_cons_of_mem _ h)
  have hl := lv_entry av (n := maxL) hlen
  have b := body p e s m below meth c _ ⟨hx, hb, hml, hr, hlocks, findClass_of_methodNamed hname, hts, K, hO.1, rfl⟩ (name_of_methodNamed hname hmeth).1 hcode ⟨hO, va_S.rf, Nat.le_refl _⟩ hl
  rw [Nat.sub_self, Nat.sub_self] at b
  rw [lg_entry_eq]
  exact b
theorem mq_mt {below : List Frame} {k : kc_T} {G : gx_T} {h0 : hp_T} {v : Option Value} {h' : hp_T} {args : Array Value} {s t : State} (h : mq_ below k G h0 v h' args s t) : mt_ below k G h0 (.returned v) h' args s t := by
  obtain ⟨o, h1, h2, ⟨h3, h4, h5, h6⟩, L, ⟨-, h7, h8⟩, h9⟩ := h
  exact ⟨o, h1, h2, h3, h4, h5, h6, h7, L, h8, h9⟩
theorem W_mono {p : Program} {l : Launch} {e : Env} {R : Room} {s : State} {m : MethodId} {args : Array Value} {below : List Frame} {meth : Method} {c : Code} {H : Heap} {locs : List Loc} {cells slots : Nat} {Q Q' : State → Prop} {g : JFrame} (hQ : ∀ t, Q t → Q' t) (h : W p l e R s m args below meth c H locs cells slots Q g) : W p l e R s m args below meth c H locs cells slots Q' g := by
  intro T hT X
  obtain ⟨t, a, b⟩ := h T hT X
  exact ⟨t, a, hQ t b⟩
theorem ct_of {l : Launch} {y : MethodName} {fr lo : Nat} {k : kc_T} {G : gx_T} {av : List Value} {h0 : hp_T} {v : Option Value} {h' : hp_T} {cc : ByteArray} {maxL : Nat} {ret : Option FieldType} (hy : plainFor y = true) (hlen : (lg_sl av).length ≤ maxL)
    (body : ∀ p e s m below meth c ls, cx_ p l (rm_ k h0 fr lo) s m av.toArray meth c cc maxL ret y.cls k G h0 fr lo → meth.name = y.name → nw_ k G s h0 h0 s.heap [] → lv_has ls maxL (lv_args 0 av) →
      W p l e (rm_ k h0 fr lo) s m av.toArray below meth c s.heap [] (h_sz h0 - h_sz h0) (h_sl h0 - h_sl h0) (mq_ below k G h0 v h' av.toArray s) (F0 m 0 ls [])) : ct_ l y (ws_ y cc maxL ret) fr lo k G av h0 v h' :=
  ctO_of hy hlen (fun p e s m below meth c ls C hin _ N hl => W_mono (fun _ => mq_mt) (body p e s m below meth c ls C hin N hl))
theorem ct_fuel {l : Launch} {y : MethodName} {ws : List Cond} {fr lo fr' lo' : Nat} {k : kc_T} {G : gx_T} {av : List Value} {h : hp_T} {v : Option Value} {h' : hp_T} (hM : ct_ l y ws fr lo k G av h v h') (h1 : fr = fr') (h2 : lo = lo') : ct_ l y ws fr' lo' k G av h v h' := by
  subst h1; subst h2; exact hM
section RT
variable {p : Program} {l : Launch} {e : Env} {R : Room} {s : State} {m : MethodId} {args : Array Value} {below : List Frame} {meth : Method} {c : Code} {H : Heap} {locs : List Loc} {cells slots : Nat} {Q : State → Prop}
variable {cc : ByteArray} {nL : Nat} {ret : Option FieldType} {own : String} {k : kc_T} {G : gx_T} {h0 h : hp_T} {fr lo : Nat} {pc : Nat} {ls : Array Slot} {rest : List Value}
theorem rt_i (C : cx_ p l R s m args meth c cc nL (some .int) own k G h0 fr lo) (N : nw_ k G s h0 h H locs) {v : Int32} (hdg : decode cc pc = .ok (.ireturn, 1)) : W p l e R s m args below meth c H locs (h_sz h - h_sz h0) (h_sl h - h_sl h0) (mq_ below k G h0 (some (.int v)) h args s) (F0 m pc ls [.int v]) := by
  obtain ⟨hx, hb, -, hr, hlocks, -⟩ := C
  exact W.iret hx hb hr (fun t ht hW => ⟨rfl, by rw [ht]; exact N.1, N.2.1.F ht, N.2.2⟩) N.2.1.2.2 hdg
theorem rt_z (C : cx_ p l R s m args meth c cc nL (some .boolean) own k G h0 fr lo) (N : nw_ k G s h0 h H locs) {v : Int32} (hn : narrow .boolean (.int v) = .int v) (hdg : decode cc pc = .ok (.ireturn, 1)) : W p l e R s m args below meth c H locs (h_sz h - h_sz h0) (h_sl h - h_sl h0) (mq_ below k G h0 (some (.int v)) h args s) (F0 m pc ls [.int v]) := by
  obtain ⟨hx, hb, -, hr, hlocks, -⟩ := C
  exact W.zret hx hb hr hn (fun t ht hW => ⟨rfl, by rw [ht]; exact N.1, N.2.1.F ht, N.2.2⟩) N.2.1.2.2 hdg
theorem rt_v (C : cx_ p l R s m args meth c cc nL none own k G h0 fr lo) (N : nw_ k G s h0 h H locs) (hdg : decode cc pc = .ok (.return_, 1)) : W p l e R s m args below meth c H locs (h_sz h - h_sz h0) (h_sl h - h_sl h0) (mq_ below k G h0 none h args s) (F0 m pc ls []) := by
  obtain ⟨hx, hb, -, hr, hlocks, -⟩ := C
  exact W.vret hx hb hr (fun t ht hW => ⟨rfl, by rw [ht]; exact N.1, N.2.1.F ht, N.2.2⟩) N.2.1.2.2 hdg
theorem rt_a {rt : FieldType} (hrt : (∃ n, rt = .object n) ∨ ∃ t, rt = .array t) (C : cx_ p l R s m args meth c cc nL (some rt) own k G h0 fr lo) (N : nw_ k G s h0 h H locs) {v : Option Nat} (hdg : decode cc pc = .ok (.areturn, 1)) : W p l e R s m args below meth c H locs (h_sz h - h_sz h0) (h_sl h - h_sl h0) (mq_ below k G h0 (some (va_rf v)) h args s) (F0 m pc ls [va_rf v]) := by
  obtain ⟨hx, hb, -, hr, hlocks, -⟩ := C
  exact W.aret hx hb hr hrt (by cases v with | none => exact Or.inl rfl | some a => exact Or.inr ⟨a, rfl⟩) (fun t ht hW => ⟨rfl, by rw [ht]; exact N.1, N.2.1.F ht, N.2.2⟩) N.2.1.2.2 hdg
/-- behind a call -/
theorem rn_go {v : Option Value} {h' : hp_T} {st0 : List Value} {a : Array Value} (hr : va_Run p l e R s m args below meth c H locs (h_sz h - h_sz h0) (h_sl h - h_sl h0) (h_sz h' - h_sz h) (h_sl h' - h_sl h) (F0 m pc ls st0) rest (cq_ k G h v h' a) (ax_ k)) (N : nw_ k G s h0 h H locs) (hs0 : h_sz h0 = s.heap.size)
    (kk : ∀ (H1 : Heap) (locs1 : List Loc), nw_ k G s h0 h' H1 locs1 → W p l e R s m args below meth c H1 locs1 (h_sz h' - h_sz h0) (h_sl h' - h_sl h0) Q (F0 m (pc + 3) ls (v.toList ++ rest))) : W p l e R s m args below meth c H locs (h_sz h - h_sz h0) (h_sl h - h_sl h0) Q (F0 m pc ls st0) := by
  intro T hT X
  obtain ⟨v', st₀, t, T', L, e0, X', hL, e1, e2, ⟨hv, hO, hF, hle⟩, st⟩ := hr T hT X
  cases hv
  have hS : va_S (ax_ k) s.heap T'.heap (locs ++ L) := by
    refine ⟨?_, fun q h1 h2 => ?_, fun q hq => ?_⟩
    · rw [e1]; exact Nat.le_trans N.2.1.1 (by have := hF.1; rw [e0] at this; exact this)
    · rw [e1, hF.2 q (by rw [e0]; exact Nat.lt_of_lt_of_le h1 N.2.1.1) h2, e0]
      exact N.2.1.2.1 q h1 h2
    · rcases List.mem_append.mp hq with z | z
      · exact N.2.1.2.2 q z
      · exact hL q z
  have hz : h_sz h ≤ h_sz h' := by
    have h1 := hF.1
    rw [e0] at h1
    have h2 := N.1.1
    have h3 := hO.1
    omega
  have hz0 : h_sz h0 ≤ h_sz h := by
    have h1 := N.2.1.1
    have h2 := N.1.1
    omega
  have hsl := N.2.2
  rw [show h_sz h - h_sz h0 + (h_sz h' - h_sz h) = h_sz h' - h_sz h0 by omega, show h_sl h - h_sl h0 + (h_sl h' - h_sl h) = h_sl h' - h_sl h0 by omega] at X'
  obtain ⟨t2, a1, b1⟩ := kk T'.heap (locs ++ L) ⟨by rw [e1]; exact hO, hS, Nat.le_trans hsl hle⟩ T' rfl X'
  exact ⟨t2, st t2 a1, b1⟩
end RT
section BK
variable {l : Launch} {R : Room} {p : Program} {e : Env} {below : List Frame} {s : State} {sargs : Array Value} {y : MethodName}
/-- a call of a method that has a contract, up to its end -/
theorem NM_steps {ws : List Cond} {rm : Room} {P : Array Value → State → Prop} {Q : Array Value → State → Outcome → State → Prop} (hM : NM_ l y ws rm P Q) {m : MethodId} {meth : Method} {c : Code} {U : State} {Ls : List Loc} {c0 s0 W len maxL : Nat} {ret : Option FieldType} {bytes : ByteArray} {g : JFrame} {ig : Instr} {mk : MethodId} {a : Array Value}
    (X : Stand p l e R s m sargs below meth c U Ls c0 s0) (hg : g.method = m) (hsize : g.locals.size = c.maxLocals) (hdg : decode c.code g.pc = .ok (ig, len)) (hW : 2 * g.monitorRoom + (g.stack.map fun v => v.category).sum ≤ W) (hn : U.methodNamed? y = some mk)
    (hcode : (Cond.code y bytes maxL ret).before a U = true ∨ ∃ hh, (Cond.codeWith y bytes maxL ret hh).before a U = true) (hframes : rm.frames + 1 ≤ R.frames) (hlocals : W + (maxL + 11) + rm.locals ≤ R.locals) (h4 : c0 + rm.cells ≤ R.cells) (h5 : s0 + rm.slots ≤ R.slots) (hpre : (allAtoms ws).before a U = true) (hP : P a (U.calling g mk a)) :
    ∃ o s₂, Steps p.tables e below (doInvoke e (U.setTop g) [] mk a).1 s₂ ∧ s₂.status = .running ∧ Ended s₂ (.java g :: U.frames.tail) o ∧ Q a (U.calling g mk a) o s₂ := by
  have hmc : ∃ (methY : Method) (cY : Code), U.vm.method? mk = some methY ∧ methY.code = some cY ∧ cY.maxLocals = maxL := by
    rcases hcode with h | ⟨hh, h⟩
    · obtain ⟨methY, cY, hmY, hcY, -, hlY, -⟩ := Cond.code_spec hn h
      exact ⟨methY, cY, hmY, hcY, hlY⟩
    · obtain ⟨mY', methY, cY, hnY', hmY, hcY, -, hlY, -⟩ := Cond.codeWith_spec h
      cases hn.symm.trans hnY'
      exact ⟨methY, cY, hmY, hcY, hlY⟩
  obtain ⟨methY, cY, hmY, hcY, hlY⟩ := hmc
  have h : At U g.method c below := by rw [hg]; exact X.here
  have hroom := X.room_calling (g := g) (R' := rm) (args' := a) hsize hmY hcY hframes (by rw [hlY]; omega) h4 h5
  have hf' : (U.calling g mk a).frames = .invoking mk a :: (U.setTop g).frames := by
    have := State.frames_calling h.top g mk a
    rw [State.frames_setTop' g h.top]
    exact this
  have hcc : (U.calling g mk a).code? g.method = some c := by
    have := h.code
    rw [State.code?_eq] at this ⊢
    simpa [State.calling, State.pushFrame, State.setFrames] using this
  have happ : (U.calling g mk a).status = .running ∧ (U.calling g mk a).curStatus? = some .runnable ∧ (U.calling g mk a).alone = true ∧ (U.calling g mk a).methodNamed? y = some mk ∧ (U.calling g mk a).hears mk (U.setTop g).frames = true ∧ (U.calling g mk a).hasRoom e.platform rm = true ∧ (allAtoms ws).before a (U.calling g mk a) = true := by
    refine ⟨h.running, by simpa [State.calling] using h.runnable, by simpa [State.calling] using h.alone, hn, ?_, hroom, ?_⟩
    · rw [State.frames_setTop' g h.top]
      simp [State.hears, hcc, hdg, Except.toOption]
    · rw [State.calling_eq h.top, Cond.before_setFrames]; exact hpre
  obtain ⟨mid, hmid⟩ := h.above
  have hfr : (U.setTop g).frames = (.java g :: mid) ++ below := by rw [State.frames_setTop' g h.top, hmid]; rfl
  have hgo : (U.calling g mk a).goesOn := ⟨happ.1, happ.2.1, happ.2.2.1⟩
  obtain ⟨n, o, hw, hr, he, hp⟩ := hM p e X.admits X.cas X.clock (U.calling g mk a) mk a (U.setTop g).frames hf' happ hP
  obtain ⟨t, ht, -⟩ := State.frames_cons (show (U.setTop g).frames = .java g :: U.frames.tail from State.frames_setTop' g h.top)
  have hstep : (stepThread p.tables e (U.calling g mk a)).1 = (doInvoke e (U.setTop g) [] mk a).1 := by
    rw [stepThread_invoking hf', doInvoke_state e (U.setTop g) []]
    show (doInvoke e (((U.setTop g).pushFrame (.invoking mk a)).setFrames (U.setTop g).frames) [] mk a).1 = _
    rw [State.pushFrame, State.setFrames_setFrames, State.setFrames_self ht]
  cases n with
  | zero => exact absurd ⟨[.invoking mk a], hf', by simp, by simp⟩ he.not_within
  | succ k =>
    rw [stepsAlone_succ _ hgo, hstep] at hr he hp
    rw [State.frames_setTop' g h.top] at he
    refine ⟨o, _, ⟨k, rfl, fun j hj => ?_⟩, hr, he, hp⟩
    have := hw (j + 1) (by omega)
    rw [stepsAlone_succ _ hgo, hstep, hfr] at this
    exact this.weaken
end BK
theorem cl_cn {ci : Nat} {q : vw_C} (h : cl_A[ci]? = some q) : cn_ ci = q.1 := by
  match ci, h with
  | 0, h => cases h; rfl
  | 1, h => cases h; rfl
  | 2, h => cases h; rfl
  | 3, h => cases h; rfl
  | 4, h => cases h; rfl
  | 5, h => cases h; rfl
  | 6, h => cases h; rfl
  | 7, h => cases h; rfl
  | 8, h => cases h; rfl
  | 9, h => cases h; rfl
  | 10, h => cases h; rfl
  | 11, h => cases h; rfl
  | n + 12, h => simp [cl_A] at h
theorem cls_some {k : kc_T} {h : hp_T} {a ci : Nat} (e : cls_ k h (some a) = some ci) : (∃ fs, h.1 a = some (.inr (ci, fs))) ∨ ∃ fs, k_ro k a = some (.inr (ci, fs)) := by
  simp only [cls_] at e
  split at e
  · next o ho =>
    cases e
    cases h1 : h.1 a with
    | none =>
      rw [h1] at ho
      exact Or.inr ⟨o.2, ho⟩
    | some x =>
      rw [h1] at ho
      cases ho
      exact Or.inl ⟨o.2, rfl⟩
  · cases e
theorem recv_ {k : kc_T} {G : gx_T} {s : State} {h0 h : hp_T} {H : Heap} {locs : List Loc} {a ci : Nat} (N : nw_ k G s h0 h H locs) (K : KK_ k G s s.heap) (e : cls_ k h (some a) = some ci) : ∃ cell : Cell, H[a]? = some cell ∧ cell.vm.isStatics = false ∧ s.vm.findClass (cn_ ci) = some cell.cls := by
  rcases cls_some e with ⟨fs, ho⟩ | ⟨fs, ho⟩
  · obtain ⟨-, q, hq, cell, g1, g2, g3, -⟩ := N.1.2.2 a _ ho
    have hq : cl_A[ci]? = some q := hq
    exact ⟨cell, g1, by rw [g3]; rfl, by rw [cl_cn hq, g2]; exact (K.1.1 ci q hq).2.1⟩
  · exact va_Orecv (K.2.2.1 a _ ho).1 N.2.1
section RN
variable {p : Program} {l : Launch} {e : Env} {R : Room} {s : State} {m : MethodId} {args : Array Value} {below : List Frame} {meth : Method} {c : Code} {H : Heap} {locs : List Loc}
variable {cc : ByteArray} {nL : Nat} {ret : Option FieldType} {own : String} {k : kc_T} {G : gx_T} {h0 h h' : hp_T} {fr lo : Nat} {pc : Nat} {ls : Array Slot} {rest : List Value}
variable {y : MethodName} {bytes : ByteArray} {maxL index fr' lo' : Nat} {r0 : Option FieldType} {v : Option Value} {As : List Value} {b : Nat}
theorem bk_ct (C : cx_ p l R s m args meth c cc nL ret own k G h0 fr lo) {h₁ : hp_T} {len : Nat} {av : List Value} (hM : ct_ l y (ws_ y bytes maxL r0) fr' lo' k G av h₁ v h') (q5 : Cond.code y bytes maxL r0 ∈ lw_all) (hR : fr' + 1 ≤ fr ∧ 8 + (maxL + 11) + lo' ≤ lo) :
    Back l R p e below s args y len 8 (fun A a => A.cells + (rm_ k h₁ fr' lo').cells ≤ R.cells ∧ A.slots + (rm_ k h₁ fr' lo').slots ≤ R.slots ∧ cp_ k G av h₁ a A.U) (PostOf (cq_ k G h₁ v h') (h_sz h' - h_sz h₁) (h_sl h' - h_sl h₁) (ax_ k)) := by
  obtain ⟨hx, hb, hml, -, -, hown, hts, K, hs0, rfl⟩ := C
  intro m meth c A g ig mk a X hg hsize hdg hW hn hp
  obtain ⟨U, Ls, c0, s0⟩ := A
  dsimp only [Pt.U, Pt.locs, Pt.cells, Pt.slots] at X hn hp ⊢
  have hws := pay_in hts (lw_meth q5)
  obtain ⟨o, s₂, hsteps, -, hend, hq⟩ := NM_steps (bytes := bytes) (maxL := maxL) (ret := r0) hM X hg hsize hdg hW hn (Or.inl (hws _ List.mem_cons_self _ _ X.warmed)) hR.1 hR.2 hp.1 hp.2.1 (atoms_intro fun w hw => hws w hw _ _ X.warmed) (cp_blind _ _ _ _ hp.2.2)
  obtain ⟨rfl, q1, q2, q3, hW₂, L, hsm, hL⟩ := hq
  have h : At U g.method c below := by rw [hg]; exact X.here
  obtain ⟨e2, g2, g3, g4, g5, g6⟩ := id hsm
  have e3 : s₂ = ({ (U.calling g mk a).setFrames s₂.frames with heap := s₂.heap, slotsUsed := s₂.slotsUsed } : State).setVm s₂.vm := by
    have : s₂ = ({ s₂ with vm := (U.calling g mk a).vm } : State).setVm s₂.vm := rfl
    rw [e2] at this
    exact this
  obtain ⟨c₂, i₂, len₂, hc₂, hd₂, hf₂⟩ := hend
  have hW' : U.WarmedH s₂.vm := hW₂
  have hcc : c₂ = c := by
    have h1 : s₂.code? g.method = U.code? g.method := by
      rw [State.code?_eq, State.code?_eq, hW'.alike.method?]
    exact Option.some.inj (hc₂.symm.trans (h1.trans h.code))
  subst hcc
  have hlen : len₂ = len := by rw [hdg] at hd₂; cases hd₂; rfl
  subst hlen
  obtain ⟨g₀, hg0⟩ := Option.isSome_iff_exists.mp h.top
  obtain ⟨r, hr⟩ := State.topJava?_eq_some.mp hg0
  have hs₂ : s₂ = (({ U with heap := s₂.heap, slotsUsed := s₂.slotsUsed } : State).setVm s₂.vm).setTop { g with pc := g.pc + len₂, stack := v.toList ++ g.stack } := by
    have hr' : (({ U with heap := s₂.heap, slotsUsed := s₂.slotsUsed } : State).setVm s₂.vm).frames = .java g₀ :: r := hr
    refine e3.trans ?_
    rw [hf₂, State.calling_eq h.top, State.setFrames_setFrames, State.setTop_of_frames _ hr', hr]
    rfl
  have hsame : U.sameButNew ({ U with heap := s₂.heap, slotsUsed := s₂.slotsUsed } : State) L (h_sz h' - h_sz h₁) (h_sl h' - h_sl h₁) := by
    refine ⟨?_, g2, g3, g4, g5, g6⟩
    obtain ⟨t, ht, -⟩ := State.frames_cons hr
    show ({ U with heap := s₂.heap, slotsUsed := s₂.slotsUsed } : State) = { U.setFrames U.frames with heap := s₂.heap, slotsUsed := s₂.slotsUsed }
    rw [State.setFrames_self ht]
  subst hg
  refine ⟨v, ⟨(({ U with heap := s₂.heap, slotsUsed := s₂.slotsUsed } : State).setVm s₂.vm), Ls ++ L, c0 + (h_sz h' - h_sz h₁), s0 + (h_sl h' - h_sl h₁)⟩,
    ⟨X.admits, X.cas, X.clock, X.frames, X.room, X.hears, X.method, X.code, (X.here.setHeapUsed s₂.heap s₂.slotsUsed).setVm hW'.alike, X.tail, State.WarmedH.trans X.warmed hW', X.limits, X.bytes, X.same.trans (hsame.setVm s.vm)⟩,
    ⟨g, mk, s₂, L, rfl, rfl, ⟨rfl, q1, q2, q3⟩, rfl, hL, rfl, rfl⟩, ?_⟩
  show Steps p.tables e below _ ((({ U with heap := s₂.heap, slotsUsed := s₂.slotsUsed } : State).setVm s₂.vm).setTop { g with pc := g.pc + len₂, stack := v.toList ++ g.stack })
  rw [← hs₂]
  exact hsteps
theorem pre_ct (C : cx_ p l R s m args meth c cc nL ret own k G h0 fr lo) (N : nw_ k G s h0 h H locs) {T : State} (hT : T.heap = H) {av : List Value} (vm₁ : Vm) (hW₁ : s.WarmedH vm₁) : (h_sz h - h_sz h0) + (rm_ k h fr' lo').cells ≤ R.cells ∧ (h_sl h - h_sl h0) + (rm_ k h fr' lo').slots ≤ R.slots ∧ cp_ k G av h av.toArray (T.setVm vm₁) := by
  obtain ⟨-, -, -, -, -, -, -, K, hs0, rfl⟩ := C
  have h1 := N.1.2.1.2.1
  have h2 := N.1.2.1.2.2
  have h3 := N.2.2
  have h4 := N.2.1.1
  have h5 := N.1.1
  refine ⟨?_, ?_, rfl, ?_, N.KK K hT hW₁⟩
  · show h_sz h - h_sz h0 + (k_lc k - h_sz h) ≤ k_lc k - h_sz h0
    omega
  · show h_sl h - h_sl h0 + (k_ls k - h_sl h) ≤ k_ls k - h_sl h0
    omega
  · show hp_ok k G h T.heap
    rw [hT]; exact N.1
/-- a call through an object, of its class's own method (private ones too) -/
theorem run_V (C : cx_ p l R s m args meth c cc nL ret own k G h0 fr lo) (N : nw_ k G s h0 h H locs) {ci : Nat} (hM : ct_ l y (ws_ y bytes maxL r0) fr' lo' k G (.ref b :: As) h v h') (hcl : cls_ k h (some b) = some ci) (hcn : cn_ ci = y.cls)
    (q1 : Cond.methodLink own index y ∈ lw_all) (q2 : Cond.instanceMethod y ∈ lw_all) (q3 : Cond.selects y.cls y y ∈ lw_all) (q5 : Cond.code y bytes maxL r0 ∈ lw_all)
    {n : Nat} (hn : As.length = n) (hd : y.cls ≠ "java/lang/invoke/MethodHandle" ∧ y.cls ≠ "java/lang/invoke/VarHandle" ∧ (parseMethodDescriptor y.desc).map (fun d => d.parameters.length) = some n) (hR : fr' + 1 ≤ fr ∧ 8 + (maxL + 11) + lo' ≤ lo) (hsize : ls.size = nL) (hW : (rest.map fun v => v.category).sum ≤ 8) (hdg : decode cc pc = .ok (.invokevirtual index, 3)) :
    va_Run p l e R s m args below meth c H locs (h_sz h - h_sz h0) (h_sl h - h_sl h0) (h_sz h' - h_sz h) (h_sl h' - h_sl h) (F0 m pc ls (As.reverse ++ .ref b :: rest)) rest (cq_ k G h v h' (.ref b :: As).toArray) (ax_ k) := by
  have hK := bk_ct (e := e) (below := below) (len := 3) C hM q5 hR
  have hC := C
  obtain ⟨hx, hb, hml, -, -, hown, hts, K, hs0, -⟩ := C
  obtain ⟨cellB, hcB, hoB, hclB⟩ := recv_ N K hcl
  rw [hcn] at hclB
  intro T hT X
  obtain ⟨v', vm₁, ⟨U', l2, c2, s2⟩, hW₁, X', ⟨g', mk, t, L, e1, e2, hq, h1, hL, h2, h3⟩, st⟩ := callV X hx (C := y.cls) (bytes := bytes) (maxL := maxL) (ret := r0) hown (hts _ q1) (hts _ q2) (hts _ q3) (hts _ q5) ⟨hd.1, hd.2.1⟩ hK (by rw [hT]; exact hcB) hoB hclB rfl (hsize.trans hml.symm) (argsL := As) (rest := rest) (fun sig h => by have h2 := hd.2.2; rw [h] at h2; exact hn.trans (Option.some.inj h2).symm) rfl (lv_room (m := m) (pc := pc) (ls := ls) (rest := As.reverse ++ .ref b :: rest) hW) (by rw [hb]; exact hdg)
    (fun vm₁ hW₁ => pre_ct hC N hT vm₁ hW₁)
  dsimp only [Pt.U, Pt.locs, Pt.cells, Pt.slots] at X' e1 e2 h1 h2 h3 st
  subst h1; subst h2; subst h3
  exact ⟨v', (T.setVm vm₁).calling g' mk (Value.ref b :: As).toArray, t, U', L, hT, X', hL, e1, e2, hq, st⟩
/-- a static call -/
theorem run_S (C : cx_ p l R s m args meth c cc nL ret own k G h0 fr lo) (N : nw_ k G s h0 h H locs) (hM : ct_ l y (ws_ y bytes maxL r0) fr' lo' k G As h v h')
    (q1 : Cond.methodLink own index y ∈ lw_all) (q2 : Cond.static y ∈ lw_all) (q4 : Cond.initialized y.cls ∈ lw_all) (q5 : Cond.code y bytes maxL r0 ∈ lw_all)
    {n : Nat} (hn : As.length = n) (hd : y.cls ≠ "java/lang/invoke/MethodHandle" ∧ y.cls ≠ "java/lang/invoke/VarHandle" ∧ (parseMethodDescriptor y.desc).map (fun d => d.parameters.length) = some n) (hR : fr' + 1 ≤ fr ∧ 8 + (maxL + 11) + lo' ≤ lo) (hsize : ls.size = nL) (hW : (rest.map fun v => v.category).sum ≤ 8) (hdg : decode cc pc = .ok (.invokestatic index, 3)) :
    va_Run p l e R s m args below meth c H locs (h_sz h - h_sz h0) (h_sl h - h_sl h0) (h_sz h' - h_sz h) (h_sl h' - h_sl h) (F0 m pc ls (As.reverse ++ rest)) rest (cq_ k G h v h' As.toArray) (ax_ k) := by
  have hK := bk_ct (e := e) (below := below) (len := 3) C hM q5 hR
  have hC := C
  obtain ⟨hx, hb, hml, -, -, hown, hts, K, hs0, -⟩ := C
  intro T hT X
  obtain ⟨v', vm₁, ⟨U', l2, c2, s2⟩, hW₁, X', ⟨g', mk, t, L, e1, e2, hq, h1, hL, h2, h3⟩, st⟩ := callS X hx (bytes := bytes) (maxL := maxL) (ret := r0) hown (hts _ q1) (hts _ q2) (hts _ q4) (hts _ q5) ⟨hd.1, hd.2.1⟩ hK rfl (hsize.trans hml.symm) (argsL := As) (rest := rest) (fun sig h => by have h2 := hd.2.2; rw [h] at h2; exact hn.trans (Option.some.inj h2).symm) rfl (lv_room (m := m) (pc := pc) (ls := ls) (rest := As.reverse ++ rest) hW) (by rw [hb]; exact hdg)
    (fun vm₁ hW₁ => pre_ct hC N hT vm₁ hW₁)
  dsimp only [Pt.U, Pt.locs, Pt.cells, Pt.slots] at X' e1 e2 h1 h2 h3 st
  subst h1; subst h2; subst h3
  exact ⟨v', (T.setVm vm₁).calling g' mk As.toArray, t, U', L, hT, X', hL, e1, e2, hq, st⟩
/-- a constructor's call -/
theorem run_I (C : cx_ p l R s m args meth c cc nL ret own k G h0 fr lo) (N : nw_ k G s h0 h H locs) (hM : ct_ l y (ws_ y bytes maxL none) fr' lo' k G (.ref b :: As) h v h')
    (q1 : Cond.methodLink own index y ∈ lw_all) (q2 : Cond.instanceMethod y ∈ lw_all) (q5 : Cond.code y bytes maxL none ∈ lw_all) (hin : y.name = "<init>")
    {n : Nat} (hn : As.length = n) (hd : y.cls ≠ "java/lang/invoke/MethodHandle" ∧ y.cls ≠ "java/lang/invoke/VarHandle" ∧ (parseMethodDescriptor y.desc).map (fun d => d.parameters.length) = some n) (hR : fr' + 1 ≤ fr ∧ 8 + (maxL + 11) + lo' ≤ lo) (hsize : ls.size = nL) (hW : (rest.map fun v => v.category).sum ≤ 8) (hdg : decode cc pc = .ok (.invokespecial index, 3)) :
    va_Run p l e R s m args below meth c H locs (h_sz h - h_sz h0) (h_sl h - h_sl h0) (h_sz h' - h_sz h) (h_sl h' - h_sl h) (F0 m pc ls (As.reverse ++ .ref b :: rest)) rest (cq_ k G h v h' (.ref b :: As).toArray) (ax_ k) := by
  have hK := bk_ct (e := e) (below := below) (len := 3) C hM q5 hR
  have hC := C
  obtain ⟨hx, hb, hml, -, -, hown, hts, K, hs0, -⟩ := C
  intro T hT X
  obtain ⟨v', vm₁, ⟨U', l2, c2, s2⟩, hW₁, X', ⟨g', mk, t, L, e1, e2, hq, h1, hL, h2, h3⟩, st⟩ := callI X hx (bytes := bytes) (maxL := maxL) hown hin (hts _ q1) (hts _ q2) (hts _ q5) ⟨hd.1, hd.2.1⟩ hK rfl (hsize.trans hml.symm) (a := b) (argsL := As) (rest := rest) (fun sig h => by have h2 := hd.2.2; rw [h] at h2; exact hn.trans (Option.some.inj h2).symm) rfl (lv_room (m := m) (pc := pc) (ls := ls) (rest := As.reverse ++ .ref b :: rest) hW) (by rw [hb]; exact hdg)
    (fun vm₁ hW₁ => pre_ct hC N hT vm₁ hW₁)
  dsimp only [Pt.U, Pt.locs, Pt.cells, Pt.slots] at X' e1 e2 h1 h2 h3 st
  subst h1; subst h2; subst h3
  exact ⟨v', (T.setVm vm₁).calling g' mk (Value.ref b :: As).toArray, t, U', L, hT, X', hL, e1, e2, hq, st⟩
end RN
section AL
variable {p : Program} {l : Launch} {e : Env} {R : Room} {s : State} {m : MethodId} {args : Array Value} {below : List Frame} {meth : Method} {c : Code} {H : Heap} {locs : List Loc} {Q : State → Prop}
variable {cc : ByteArray} {nL : Nat} {ret : Option FieldType} {own : String} {k : kc_T} {G : gx_T} {h0 h h' : hp_T} {fr lo : Nat} {pc : Nat} {ls : Array Slot} {rest : List Value}
theorem lim_ (C : cx_ p l R s m args meth c cc nL ret own k G h0 fr lo) (N : nw_ k G s h0 h H locs) {n : Nat} (hl : h_sz h + 1 ≤ k_lc k ∧ h_sl h + n ≤ k_ls k) : (h_sz h - h_sz h0 + 1 ≤ R.cells ∧ h_sl h - h_sl h0 + n ≤ R.slots) ∧ h_sz h - h_sz h0 + 1 = (h_sz h + 1) - h_sz h0 ∧ h_sl h - h_sl h0 + n = (h_sl h + n) - h_sl h0 := by
  obtain ⟨-, -, -, -, -, -, -, K, hs0, rfl⟩ := C
  have h3 := N.2.2
  have h4 := N.2.1.1
  have h5 := N.1.1
  refine ⟨⟨?_, ?_⟩, by omega, by omega⟩
  · show h_sz h - h_sz h0 + 1 ≤ k_lc k - h_sz h0
    omega
  · show h_sl h - h_sl h0 + n ≤ k_ls k - h_sl h0
    omega
theorem nA_some {t : Nat} {n : Int32} {x : Nat × hp_T} (hv : nA_ k h t n = some x) : ¬ n < 0 ∧ n.toNatClampNeg ≤ 1000000 ∧ (h_sz h + 1 ≤ k_lc k ∧ h_sl h + n.toNatClampNeg ≤ k_ls k) ∧ x = (h_sz h, mk_ h (.inl (t, n.toNatClampNeg, .inl (fun _ => 0))) n.toNatClampNeg) := by
  unfold nA_ at hv
  split at hv
  · next hc =>
    cases hv
    exact ⟨hc.1, hc.2.1, hc.2.2, rfl⟩
  · cases hv
/-- a new array of a small type -/
theorem r_newa (t : Nat) {ty : FieldType} (C : cx_ p l R s m args meth c cc nL ret own k G h0 fr lo) (N : nw_ k G s h0 h H locs) {n : Int32} {a : Nat} (hv : nA_ k h t n = some (a, h')) {atype : ArrayType} (hty : newarray.typeOf atype = ty) (ht : (tg_ G)[t]? = some (G.2.1 t, ty)) (hdef : defaultValue ty = .int 0) (hcb : componentBytes ty ≤ 500) (hra : ∀ cA, va_RA s cA ty = (s.vm.findClass ("[" ++ ty.toString) = some cA))
    (q : Cond.arrayClass ty ∈ lw_all) (hdg : decode cc pc = .ok (.newarray atype, 2))
    (kk : ∀ H1, nw_ k G s h0 h' H1 locs → W p l e R s m args below meth c H1 locs (h_sz h' - h_sz h0) (h_sl h' - h_sl h0) Q (F0 m (pc + 2) ls (.ref a :: rest))) : W p l e R s m args below meth c H locs (h_sz h - h_sz h0) (h_sl h - h_sl h0) Q (F0 m pc ls (.int n :: rest)) := by
  obtain ⟨hn, hbig, hlim, e1⟩ := nA_some hv
  cases e1
  obtain ⟨⟨hc1, hs1⟩, ec, es⟩ := lim_ C N hlim
  obtain ⟨hx, hb, -, -, -, hown, hts, K, -⟩ := C
  subst hty
  have hbytes : n.toNatClampNeg * componentBytes (newarray.typeOf atype) ≤ 536870912 :=
    Nat.le_trans (Nat.mul_le_mul hbig hcb) (by decide)
  refine va_newaK (g := F0 m pc ls (.int n :: rest)) hx hb (hts _ q) rfl hdg rfl hn rfl hbytes hc1 hs1 N.1.1.symm fun H1 cA e1 z1 o1 hAr hNm => ?_
  have hcA : cA = G.2.1 t := by
    have h1 := (K.1.2 t _ ht).2
    rw [hra] at h1
    exact Option.some.inj (hNm.symm.trans h1)
  subst hcA
  have hz : H1.size = H.size + 1 := by rw [z1, N.1.1]
  have ho : ∀ q : Nat, q < H.size → H1[q]? = H[q]? := fun q h => o1 q (by rw [N.1.1]; exact h)
  rw [ec, es]
  refine kk H1 ⟨hp_push N.1 hlim hz ho ?_, va_S_push N.2.1 hz ho, Nat.le_trans N.2.2 (Nat.le_add_right _ _)⟩
  show H1[h_sz h]? = some (arrV (G.2.1 t) n.toNatClampNeg (fun _ => .int 0))
  rw [e1, hdef]
theorem nO_some {ci : Nat} {fs : List Value} {n : Nat} {x : Nat × hp_T} (hv : nO_ k h ci fs n = some x) : (h_sz h + 1 ≤ k_lc k ∧ h_sl h + n ≤ k_ls k) ∧ x = (h_sz h, mk_ h (.inr (ci, fs)) n) := by
  unfold nO_ at hv
  split at hv
  · next hc =>
    cases hv
    exact ⟨hc, rfl⟩
  · cases hv
/-- a new object -/
theorem r_new (C : cx_ p l R s m args meth c cc nL ret own k G h0 fr lo) (N : nw_ k G s h0 h H locs) {ci Nf a : Nat} {fs : List Value} (hv : nO_ k h ci fs Nf = some (a, h')) {Cn : String} {T : u_T} {index : Nat} (hin : ∀ w ∈ u_ws Cn T Nf, w ∈ lw_all) (ty : Nat → FieldType) (hty : ∀ k, k < Nf → parseFieldDescriptor (T k).2.2.1 = some (ty k)) (hc : cl_A[ci]? = some (Cn, T, Nf))
    (q1 : Cond.classLink own index Cn ∈ lw_all) (q2 : Cond.instantiable Cn Nf ∈ lw_all) (q3 : Cond.initialized Cn ∈ lw_all) (hfs : ∀ j, j < Nf → defaultValue (ty j) = vp_V fs j) (hdg : decode cc pc = .ok (.new index, 3))
    (kk : ∀ H1, nw_ k G s h0 h' H1 locs → W p l e R s m args below meth c H1 locs (h_sz h' - h_sz h0) (h_sl h' - h_sl h0) Q (F0 m (pc + 3) ls (.ref a :: rest))) : W p l e R s m args below meth c H locs (h_sz h - h_sz h0) (h_sl h - h_sl h0) Q (F0 m pc ls rest) := by
  obtain ⟨hlim, e1⟩ := nO_some hv
  cases e1
  obtain ⟨⟨hc1, hs1⟩, ec, es⟩ := lim_ C N hlim
  obtain ⟨hx, hb, -, -, -, hown, hts, K, -⟩ := C
  have hKn := K.1.1 ci _ hc
  refine W.newcK (g := F0 m pc ls rest) hx hb hown (hts _ q1) (hts _ q2) (hts _ q3) rfl hdg hc1 hs1 hKn.2.1 N.1.1.symm fun H1 kC hkC e1 z1 o1 => ?_
  have hz : H1.size = H.size + 1 := by rw [z1, N.1.1]
  have ho : ∀ q : Nat, q < H.size → H1[q]? = H[q]? := fun q h => o1 q (by rw [N.1.1]; exact h)
  rw [ec, es]
  exact kk H1 ⟨hp_push N.1 hlim hz ho ⟨_, hc, (u_born ty hts hin hKn hkC e1 hty).to hfs⟩, va_S_push N.2.1 hz ho, Nat.le_trans N.2.2 (Nat.le_add_right _ _)⟩
/-- Object's constructor -/
theorem r_oinit (C : cx_ p l R s m args meth c cc nL ret own k G h0 fr lo) {cells slots a idx : Nat} (q1 : Cond.methodLink own idx objectInit ∈ lw_all) (q2 : Cond.instanceMethod objectInit ∈ lw_all) (q3 : Cond.code objectInit ⟨#[0xb1]⟩ 1 none ∈ lw_all) (hsize : ls.size = nL) (hrest : (rest.map fun v => v.category).sum ≤ 8) (hR : 1 ≤ fr ∧ 20 ≤ lo) (hdg : decode cc pc = .ok (.invokespecial idx, 3))
    (kk : W p l e R s m args below meth c H locs cells slots Q (F0 m (pc + 3) ls rest)) : W p l e R s m args below meth c H locs cells slots Q (F0 m pc ls (.ref a :: rest)) := by
  obtain ⟨hx, hb, hml, -, -, hown, hts, K, -, rfl⟩ := C
  refine W.objInit hx hb hown (hts _ q1) (hts _ q2) (hts _ q3) rfl (by rw [hml]; exact hsize) rfl hdg hR.1 ?_ kk
  have := lv_room (m := m) (pc := pc) (ls := ls) (rest := .ref a :: rest) hrest
  show _ + 12 ≤ lo
  omega
end AL
