set_option maxRecDepth 100000
/-! exceptions that the machine itself throws, at a method's start -/
abbrev hy_ (l : Launch) (G : gx_T) : Prop := l.flags = flags0 ∧ ∀ U : State, G.2.2 U → modulesRight_1 U = true
theorem vt_flags {l : Launch} {e : Env} (ha : l.admits e) (hfl : l.flags = flags0) : e.platform.stackTraces = false := by
  rw [ha.platform]
  show l.stackTraces = false
  unfold Launch.stackTraces
  rw [hfl]
  decide +kernel
theorem sb_old {s t : State} {c n : Nat} (h : s.sameButNew t [] c n) {a : Nat} (ha : a < s.heap.size) : t.heap[a]? = s.heap[a]? := by
  obtain ⟨-, -, -, -, -, h6⟩ := h
  have hc : s.heap[a]? = some s.heap[a] := Array.getElem?_eq_getElem ha
  obtain ⟨c', e1, e2, e3, e4⟩ := h6 a _ hc
  have e5 : c'.slots = (s.heap[a]).slots := Array.ext_getElem? fun i => e4 i List.not_mem_nil
  rw [e1, hc, e2, e5]
/-- the end of a method that made some cells and threw -/
theorem en_thr {E : String} {below : List Frame} {k : kc_T} {G : gx_T} {h0 : hp_T} {args : Array Value} {s U : State} {a dc dn n : Nat} (O : hp_ok k G h0 s.heap) (hrun : U.status = .running) (hend : Ended U below (.threw a)) (hW : s.WarmedH U.vm) (hn : n ≤ dn) (hs : s.sameButNew ({ U with vm := s.vm } : State) [] dc n)
    (hlim : h_sz h0 + dc ≤ k_lc k ∧ h_sl h0 + dn ≤ k_ls k) (hz : s.heap.size + dc ≤ U.heap.size) (hc : ∃ cell : Cell, U.heap[a]? = some cell ∧ cell.vm.isStatics = false ∧ s.vm.findClass E = some cell.cls) : me_ E below k G h0 (.threw a) (h0.1, h_sz h0 + dc, h_sl h0 + dn) args s U := by
  have hz2 : U.heap.size ≤ s.heap.size + dc := hs.2.2.1
  have hz1 : U.heap.size = s.heap.size + dc := by omega
  have ho : ∀ q : Nat, q < s.heap.size → U.heap[q]? = s.heap[q]? := fun q hq => sb_old hs hq
  refine ⟨_, hrun, hend, ⟨rfl, ⟨by show h_sz h0 + dc = _; rw [hz1, O.1], ⟨fun q hq => O.2.1.1 q (by omega), hlim.1, hlim.2⟩, fun b o hb => ?_⟩, ⟨by omega, fun q hq _ => ho q hq⟩, Nat.le_add_right _ _, hW, [], ?_, fun q hq => absurd hq List.not_mem_nil⟩, fun x e => ?_⟩
  · have h1 := O.2.2 b o hb
    exact ⟨h1.1, h1.2.kept (ho b h1.2.lt)⟩
  · show s.sameButNew _ [] (h_sz h0 + dc - h_sz h0) (h_sl h0 + dn - h_sl h0)
    rw [Nat.add_sub_cancel_left, Nat.add_sub_cancel_left]
    exact hs.weaken (fun x hx _ => hx) (Nat.le_refl _) hn
  · cases e
    exact hc
section VT
variable {p : Program} {l : Launch} {e : Env} {R : Room} {s : State} {m : MethodId} {args : Array Value} {below : List Frame} {meth : Method} {c : Code}
variable {cc : ByteArray} {nL : Nat} {ret : Option FieldType} {own : String} {k : kc_T} {G : gx_T} {h0 : hp_T} {fr lo : Nat} {pc : Nat} {ls : Array Slot} {rest : List Value}
/-- getfield of null -/
theorem r_npe0 (C : cx_ p l R s m args meth c cc nL ret own k G h0 fr lo) (O : hp_ok k G h0 s.heap) (hfl : hy_ l G) (hem : c.exceptionTable.toList = []) {ci j : Nat} {ref Cn : String} {T : u_T} {Nf index : Nat} (hin : ∀ w ∈ u_ws Cn T Nf, w ∈ lw_all) (hc : cl_A[ci]? = some (Cn, T, Nf)) (hj : j < Nf)
    (hlink : Cond.fieldLink own index ref (T j).2.1 (T j).2.2.1 ∈ lw_all) (hsame : (T j).1 = ref) (hlim : h_sz h0 + 1 ≤ k_lc k ∧ h_sl h0 + 8 ≤ k_ls k) (hR : 7 < fr ∧ 10248 ≤ lo) (hsize : ls.size = nL) (hrest : (rest.map fun v => v.category).sum ≤ 8) (hdg : decode cc pc = .ok (.getfield index, 3)) :
    W p l e R s m args below meth c s.heap [] (h_sz h0 - h_sz h0) (h_sl h0 - h_sl h0) (me_ "java/lang/NullPointerException" below k G h0 (.threw (h_sz h0)) (h0.1, h_sz h0 + 1, h_sl h0 + 8) args s) (F0 m pc ls (.null :: rest)) := by
  obtain ⟨hx, hb, hml, -, hlk, hown, hts, K, hs0, rfl⟩ := C
  intro T1 hT X
  obtain ⟨hS, hfc, kC, hkC, hkind⟩ := K.1.1 ci _ hc
  obtain ⟨cf, kf, fi, f, hi, hsl⟩ := hS j hj
  have hst := (u_facts hfc hkC (u_lays hts hin hj) hi).1
  rw [hsame] at hi
  obtain ⟨vm', X', st⟩ := X.getfieldNull hx hown (hts _ hlink) hi hst (g := F0 m pc ls (.null :: rest)) rfl (rest := rest) rfl (by rw [hb]; exact hdg)
  have hroom := lv_room (m := m) (pc := pc) (ls := ls) (rest := rest) hrest
  obtain ⟨U, h1, hrun, hend, hW, hsm, cell, hcell, NC⟩ := X'.npeArm hx (vt_flags X.admits hfl.1) (at_npeArm hts K) (fun x hx _ _ => absurd hx List.not_mem_nil) (g := F0 m pc ls rest) rfl (hsize.trans hml.symm) rfl rfl (by rw [hem]; intro x hx; cases hx) hR.1 (by show 2 * (F0 m pc ls rest).monitorRoom + (rest.map fun v => v.category).sum + 10240 ≤ lo; omega) (by show h_sz h0 - h_sz h0 + 1 ≤ k_lc k - h_sz h0; omega) (by show h_sl h0 - h_sl h0 + 8 ≤ k_ls k - h_sl h0; omega) hlk
  have ez : (T1.setVm vm').heap.size = h_sz h0 := by show T1.heap.size = _; rw [hT, hs0]
  rw [ez] at hend hcell
  rw [Nat.sub_self, Nat.sub_self, Nat.zero_add, Nat.zero_add] at hsm
  refine ⟨U, st U h1, en_thr O hrun hend hW (Nat.le_refl _) hsm hlim ?_ ⟨cell, hcell, by rw [NC.vm]; rfl, NC.cls⟩⟩
  have := (Array.getElem?_eq_some_iff.mp hcell).1
  omega
end VT
/-! the text of a ClassCastException -/
def hm_ (x : Bool) : String := (if x then "module " ++ "java.base" else "unnamed module") ++ " of loader " ++ "'bootstrap'"
def tx_ (a b : String) (sm x y : Bool) : String := "class " ++ a ++ " cannot be cast to class " ++ b ++ " (" ++ (if sm then a ++ " and " ++ b ++ " are in " ++ hm_ x else a ++ " is in " ++ hm_ x ++ "; " ++ b ++ " is in " ++ hm_ y) ++ ")"
abbrev cc_L : List (String × String) := [("AdjectiveCoupons$Citizen", "AdjectiveCoupons$Lover"), ("AdjectiveCoupons$Citizen", "AdjectiveCoupons$Critic"), ("AdjectiveCoupons$Citizen", "AdjectiveCoupons$Poet"), ("AdjectiveCoupons$Lover", "AdjectiveCoupons$Critic"), ("AdjectiveCoupons$Lover", "AdjectiveCoupons$Poet"), ("AdjectiveCoupons$Critic", "AdjectiveCoupons$Citizen"), ("AdjectiveCoupons$Critic", "AdjectiveCoupons$Lover"), ("AdjectiveCoupons$Critic", "AdjectiveCoupons$Poet"), ("AdjectiveCoupons$Poet", "AdjectiveCoupons$Citizen"), ("AdjectiveCoupons$Poet", "AdjectiveCoupons$Lover")]
theorem hm_len (x : Bool) : (hm_ x).toList.length ≤ 40 := by
  cases x <;> decide +kernel
theorem tx_len {a b : String} (ha : a.toList.length ≤ 24) (hb : b.toList.length ≤ 24) (sm x y : Bool) : (tx_ a b sm x y).toList.length ≤ 240 := by
  have h1 := hm_len x
  have h2 := hm_len y
  have l1 : "class ".toList.length = 6 := by decide
  have l2 : " cannot be cast to class ".toList.length = 25 := by decide
  have l3 : " (".toList.length = 2 := by decide
  have l4 : " and ".toList.length = 5 := by decide
  have l5 : " are in ".toList.length = 8 := by decide
  have l6 : " is in ".toList.length = 7 := by decide
  have l7 : "; ".toList.length = 2 := by decide
  have l8 : ")".toList.length = 1 := by decide
  have l9 : "".toList.length = 0 := by decide
  unfold tx_
  cases sm
  · simp only [String.toList_append, List.length_append, Bool.false_eq_true, if_false]
    omega
  · simp only [String.toList_append, List.length_append, if_true]
    omega
theorem tx_bytes {a b : String} (ha : a.toList.length ≤ 24) (hb : b.toList.length ≤ 24) (sm x y : Bool) : (stringBytes (stringToUtf16 (tx_ a b sm x y))).size ≤ 960 := by
  have b1 := stringBytes_size_le (stringToUtf16 (tx_ a b sm x y))
  have b2 := utf16_size_le (tx_ a b sm x y)
  have b3 := tx_len ha hb sm x y
  omega
theorem tx_mod (a b : String) (sm x y : Bool) : (tx_ a b sm x y == notModelled) = false := by
  rw [beq_eq_false_iff_ne]
  intro h
  have h2 := congrArg (fun z => z.toList.head?) h
  have h4 : notModelled.toList.head? = some (Char.ofNat 0) := by decide +kernel
  have h3 : (tx_ a b sm x y).toList.head? = some 'c' := by
    unfold tx_
    simp only [String.toList_append]
    have e : "class ".toList = 'c' :: "lass ".toList := by decide +kernel
    rw [e]
    rfl
  simp only [h3, h4] at h2
  revert h2
  decide
theorem fc_facts {vm : Vm} {name : String} {c : ClassId} {k : Class} (h : vm.findClass name = some c) (hk : vm.classes[c]? = some k) : k.name = name ∧ k.hidden = none ∧ k.loader = none := by
  obtain ⟨hlt, hp, -⟩ := Array.findIdx?_eq_some_iff_getElem.mp h
  have hkk : vm.classes[c] = k := (Array.getElem?_eq_some_iff.mp hk).2
  rw [hkk] at hp
  simp only [Bool.and_eq_true, beq_iff_eq, Option.isNone_iff_eq_none] at hp
  exact ⟨hp.1.1.1, hp.1.1.2, hp.2⟩
theorem hm_home {U : State} (hm : modulesRight_1 U = true) {vm : Vm} (hv : vm.modules = U.vm.modules) {k : Class} (hl : k.loader = none) (hp : castPackages_1.any (fun p => p == packageOf k.name) = true) : ∃ x, vm.home k = hm_ x := by
  unfold Vm.home
  have hln : vm.loaderName k.loader = "'bootstrap'" := by rw [hl]; rfl
  rw [hln]
  cases hmo : vm.moduleOf k with
  | none => exact ⟨false, rfl⟩
  | some m =>
    have hn : m.name = "java.base" := by
      unfold Vm.moduleOf at hmo
      split at hmo
      · have := List.find?_some hmo
        simpa using this
      · have h1 := List.find?_some hmo
        have h2 := List.mem_of_find?_eq_some hmo
        rw [hv] at h2
        have h3 := List.all_eq_true.mp hm m h2
        simp only [Bool.and_eq_true, beq_iff_eq] at h1
        rw [h1.1, hl] at h3
        simp only [Option.isSome_none, Bool.false_or, Bool.or_eq_true, beq_iff_eq, Bool.not_eq_true'] at h3
        rcases h3 with h3 | h3
        · exact h3
        · exfalso
          obtain ⟨z, z1, z2⟩ := List.any_eq_true.mp hp
          have z3 := List.any_eq_false.mp h3 z z1
          rw [beq_iff_eq.mp z2] at z3
          exact z3 h1.2
    show ∃ x, ("module " ++ m.name) ++ " of loader " ++ "'bootstrap'" = hm_ x
    rw [hn]
    exact ⟨true, rfl⟩
