set_option maxRecDepth 100000
/-! default methods of interfaces: the given words on them, what they say, how they are carried -/
theorem ay_any {vm vm' : Vm} (h : vm.Alike vm') (f : Class → Bool) (hf : ∀ k : Class, f k.bare = f k) (c : ClassId) : (vm'.classes[c]?).any f = (vm.classes[c]?).any f := by
  cases hk : vm.classes[c]? with
  | none => rw [h.none hk]
  | some k =>
    obtain ⟨k', hk', he⟩ := h.2.2 _ _ hk
    rw [hk']
    exact (hf k').symm.trans ((congrArg f (Class.bare_of he)).trans (hf k))
theorem ay_near {vm vm' : Vm} (h : vm.Alike vm') (c : ClassId) (name desc : String) : nearestHeld vm' c name desc = nearestHeld vm c name desc := by
  have a1 : superinterfaceMethods vm' = superinterfaceMethods vm := by rw [← superinterfaceMethods_bare vm', h.bare_eq, superinterfaceMethods_bare]
  have a2 : maximallySpecific vm' = maximallySpecific vm := by rw [← maximallySpecific_bare vm', h.bare_eq, maximallySpecific_bare]
  have a3 : ∀ k : ClassId, (vm'.classes[k]?).any (·.isInterface) = (vm.classes[k]?).any (·.isInterface) := ay_any h _ fun _ => rfl
  have a4 : ∀ k : ClassId, ((vm'.classes[k]?).any fun x => x.methods.any fun m => !m.isAbstract && !m.isStatic) = (vm.classes[k]?).any fun x => x.methods.any fun m => !m.isAbstract && !m.isStatic := ay_any h _ fun _ => rfl
  have a5 : ∀ (g : ClassId → Bool) (k : ClassId), (vm'.classes[k]?).any (·.interfaces.any g) = (vm.classes[k]?).any (·.interfaces.any g) := fun g => ay_any h _ fun _ => rfl
  simp only [nearestHeld, held, h.superclasses, h.declaredIn, h.superinterfaces, h.method?, a1, a2, a3, a4, a5]
/-- nothing nearer hides the default m -/
def nr_ (vm : Vm) (c : ClassId) (name desc : String) (m : MethodId) : Prop := (∀ k d, nearestHeld vm c name desc = some (k, .default d) → d = m) ∧ ∀ k b, nearestHeld vm c name desc ≠ some (k, .thrower b)
theorem nr_.moved {vm vm' : Vm} {c : ClassId} {name desc : String} {m : MethodId} (h : nr_ vm c name desc m) (hal : vm.Alike vm') : nr_ vm' c name desc m := by
  unfold nr_; rw [ay_near hal]; exact h
/-- what a call on an object of class C finds: a default method -/
theorem ld_spec {A : Array Value} {U : State} {C : String} {x y : MethodName} (h : (Cond.landsInDefault C x y).before A U = true) :
    ∃ c r m rm, U.vm.findClass C = some c ∧ U.methodFound? x.cls x.name x.desc = some r ∧ U.methodNamed? y = some m ∧ U.vm.method? r = some rm ∧ selectMethod {} U.vm c r = .method m ∧ (∃ mk, U.vm.classes[m.cls]? = some mk ∧ mk.isInterface = true) ∧
      ((c :: U.vm.superclasses c).any fun k => (declaredIn U.vm rm.name rm.desc k).any fun (_, z) => z.isPrivate || z.isStatic) = false ∧ nr_ U.vm c rm.name rm.desc m := by
  simp only [Cond.before, Cond.holds, Cond.value] at h
  cases hc : U.vm.findClass C with
  | none => simp [hc] at h
  | some c =>
  cases hr : U.methodFound? x.cls x.name x.desc with
  | none => simp [hc, hr] at h
  | some r =>
  cases hm : U.methodNamed? y with
  | none => simp [hc, hr, hm] at h
  | some m =>
  cases hrm : U.vm.method? r with
  | none => simp [hc, hr, hm, hrm] at h
  | some rm =>
  simp only [hc, hr, hm, hrm, Option.map_some, beq_iff_eq, Option.some.injEq] at h
  split at h
  · rename_i m' hsel
    simp only [Bool.and_eq_true, decide_eq_true_eq, Bool.not_eq_true', Option.any_eq_true] at h
    obtain ⟨⟨⟨⟨rfl, mk, hmk, hi⟩, -⟩, hway⟩, hnear⟩ := h
    refine ⟨c, r, m', rm, rfl, rfl, rfl, hrm, hsel, ⟨mk, hmk, hi⟩, hway, fun k d hk => ?_, fun k b hk => ?_⟩
    · rw [hk] at hnear; simpa using hnear
    · rw [hk] at hnear; cases hnear
  · cases h
theorem ld_setVm {A A' : Array Value} {s : State} {vm' : Vm} (h : s.vm.Alike vm') {C : String} {x y : MethodName} (hf : (s.setVm vm').methodFound? x.cls x.name x.desc = s.methodFound? x.cls x.name x.desc) :
    (Cond.landsInDefault C x y).before A' (s.setVm vm') = (Cond.landsInDefault C x y).before A s := by
  have a3 : ∀ k : ClassId, (vm'.classes[k]?).any (·.isInterface) = (s.vm.classes[k]?).any (·.isInterface) := ay_any h _ fun _ => rfl
  simp only [Cond.before, Cond.holds, Cond.value, State.vm_setVm, h.findClass, hf, State.methodNamed?_setVm h, h.selectMethod, h.method?, h.superclasses, h.declaredIn, ay_near h, a3]
/-- the given words on One and Citizen -/
abbrev dw_L : List Cond := [Cond.methodLink "AdjectiveCoupons" 253 ⟨"AdjectiveCoupons$One", "kind", "()I"⟩, Cond.sameMethod "AdjectiveCoupons$One" "AdjectiveCoupons$Buyer" "kind" "()I", Cond.methodLink "AdjectiveCoupons" 290 ⟨"AdjectiveCoupons$One", "hoards", "()Z"⟩, Cond.sameMethod "AdjectiveCoupons$One" "AdjectiveCoupons$Buyer" "hoards" "()Z", Cond.methodLink "AdjectiveCoupons$Lover" 11 ⟨"AdjectiveCoupons$Citizen", "hoards", "()Z"⟩, Cond.sameMethod "AdjectiveCoupons$Citizen" "AdjectiveCoupons$Buyer" "hoards" "()Z"]
abbrev pv_L : List MethodName := [⟨"java/lang/AbstractStringBuilder", "ensureCapacityInternal", "(I)V"⟩, ⟨"java/lang/AbstractStringBuilder", "newCapacity", "(I)I"⟩, ⟨"java/lang/AbstractStringBuilder", "inflate", "()V"⟩]
abbrev yoff_ : MethodName := ⟨"AdjectiveCoupons$Buyer", "off", "([I[Z)I"⟩
abbrev yhoa_ : MethodName := ⟨"AdjectiveCoupons$Buyer", "hoards", "()Z"⟩
def NY_ (U : State) : Prop :=
  (∀ w ∈ dw_L, w.before #[] U = true) ∧ (∀ y ∈ pv_L, (Cond.privateMethod y).before #[] U = true) ∧
  (((Cond.declares yoff_).before #[] U = true ∧ (Cond.publicMethod yoff_).before #[] U = true) ∧ (Cond.landsInDefault "AdjectiveCoupons$Citizen" yoff_ yoff_).before #[] U = true ∧ (Cond.landsInDefault "AdjectiveCoupons$Lover" yoff_ yoff_).before #[] U = true) ∧
  (∀ C ∈ ["AdjectiveCoupons$Citizen", "AdjectiveCoupons$Critic", "AdjectiveCoupons$Poet"], (Cond.landsInDefault C ⟨"AdjectiveCoupons$One", "hoards", "()Z"⟩ yhoa_).before #[] U = true) ∧
  (Cond.landsInDefault "AdjectiveCoupons$Citizen" ⟨"AdjectiveCoupons$Citizen", "hoards", "()Z"⟩ yhoa_).before #[] U = true
theorem bf_setVm {c : Cond} {u U : State} (hc : c.onTables = true) (h : c.before #[] (u.setVm U.vm) = true) : c.before #[] U = true := by
  have e := Cond.onTables_vm (A := #[]) (A' := #[]) (U := u) (U' := U) U.vm c hc
  rw [show U.setVm U.vm = U from rfl] at e
  rw [← e]
  exact h
theorem bf_ld {C : String} {x y : MethodName} {u U : State} (h : (Cond.landsInDefault C x y).before #[] (u.setVm U.vm) = true) : (Cond.landsInDefault C x y).before #[] U = true := h
theorem mf_same {u U : State} (hvm : u.vm.Alike U.vm) {C owner n d : String} (hC : C ≠ "java/lang/invoke/MethodHandle" ∧ C ≠ "java/lang/invoke/VarHandle") (hs : (Cond.sameMethod C owner n d).before #[] u = true) : (u.setVm U.vm).methodFound? C n d = u.methodFound? C n d := by
  obtain ⟨c, k, r, hc, hk, hi, -, -⟩ := Cond.sameMethod_found hs
  obtain ⟨k₀, hk₀, hname⟩ := Vm.findClass_spec hc
  cases hk.symm.trans hk₀
  exact State.methodFound?_setVm_class hvm hc hk hi (signaturePolymorphic_of_name (by rw [hname]; exact hC)) n d
theorem NY_moved {u U : State} (hW : u.WarmedH U.vm) (h : NY_ u) : NY_ U := by
  obtain ⟨h1, h2, ⟨⟨h3, h8⟩, h4, h5⟩, h6, h7⟩ := h
  have hvm := hW.alike
  obtain ⟨r, meth, hn, -⟩ := Cond.declares_spec h3
  have f1 : (u.setVm U.vm).methodFound? yoff_.cls yoff_.name yoff_.desc = u.methodFound? yoff_.cls yoff_.name yoff_.desc := State.methodFound?_setVm_of_named hvm hn ⟨by decide, by decide⟩
  refine ⟨fun w hw => pay_in (big := dw_L) (ws := dw_L) h1 (fun w hw => ⟨hw, good_of_word (List.all_eq_true.mp (by decide : dw_L.all goodWord = true) w hw)⟩) w hw _ _ hW, fun y hy => bf_setVm (u := u) rfl (by rw [Cond.privateMethod_setVm hvm]; exact h2 y hy), ⟨⟨bf_setVm (u := u) rfl (by rw [Cond.declares_setVm hvm]; exact h3), bf_setVm (u := u) rfl (by rw [Cond.publicMethod_setVm hvm]; exact h8)⟩, bf_ld (u := u) ((ld_setVm hvm f1).trans h4), bf_ld (u := u) ((ld_setVm hvm f1).trans h5)⟩, fun C hC => bf_ld (u := u) ((ld_setVm hvm ?_).trans (h6 C hC)), bf_ld (u := u) ((ld_setVm hvm ?_).trans h7)⟩
  · exact mf_same hvm ⟨by decide, by decide⟩ (h1 (Cond.sameMethod "AdjectiveCoupons$One" "AdjectiveCoupons$Buyer" "hoards" "()Z") (List.mem_of_getElem? (i := 3) rfl))
  · exact mf_same hvm ⟨by decide, by decide⟩ (h1 (Cond.sameMethod "AdjectiveCoupons$Citizen" "AdjectiveCoupons$Buyer" "hoards" "()Z") (List.mem_of_getElem? (i := 5) rfl))
