set_option maxRecDepth 100000
/-- a String's fields: of an own one or a constant one -/
def sV_ (k : kc_T) (h : hp_T) (r : Option Nat) : Option (Option Nat) := match gR_ h r [11] 0 with
  | some v => some v
  | none => match r with
    | none => none
    | some a => match k_ro k a with
      | some (.inr (11, [.ref v, .int 0])) => some (some v)
      | _ => none
def sC_ (k : kc_T) (h : hp_T) (r : Option Nat) : Option Int32 := match gI_ h r [11] 1 with
  | some v => some v
  | none => match r with
    | none => none
    | some a => match k_ro k a with
      | some (.inr (11, [.ref _, .int 0])) => some 0
      | _ => none
theorem sV_or {k : kc_T} {h : hp_T} {r : Option Nat} {v : Option Nat} (e : sV_ k h r = some v) : gR_ h r [11] 0 = some v ∨ ∃ a b, r = some a ∧ v = some b ∧ k_ro k a = some (.inr (11, [.ref b, .int 0])) := by
  unfold sV_ at e
  split at e
  · next w hw => cases e; exact Or.inl hw
  · split at e
    · cases e
    · next a _ =>
      split at e
      · next b hb => cases e; exact Or.inr ⟨a, b, rfl, rfl, hb⟩
      · cases e
theorem sC_or {k : kc_T} {h : hp_T} {r : Option Nat} {v : Int32} (e : sC_ k h r = some v) : gI_ h r [11] 1 = some v ∨ ∃ a b, r = some a ∧ v = 0 ∧ k_ro k a = some (.inr (11, [.ref b, .int 0])) := by
  unfold sC_ at e
  split at e
  · next w hw => cases e; exact Or.inl hw
  · split at e
    · cases e
    · next a _ =>
      split at e
      · next b hb => cases e; exact Or.inr ⟨a, b, rfl, rfl, hb⟩
      · cases e
theorem sV_S {k : kc_T} {h : hp_T} {r : Option Nat} {v : Option Nat} (e : sV_ k h r = some v) : ∃ a, r = some a := by
  rcases sV_or e with z | ⟨a, b, z, -⟩
  · exact gR_S z
  · exact ⟨a, z⟩
theorem sC_S {k : kc_T} {h : hp_T} {r : Option Nat} {v : Int32} (e : sC_ k h r = some v) : ∃ a, r = some a := by
  rcases sC_or e with z | ⟨a, b, z, -⟩
  · exact gI_S z
  · exact ⟨a, z⟩
theorem cpA_S {h h' : hp_T} {rs rd : Option Nat} {sp dp n : Int32} {t : Nat} (e : cpA_ h rs sp rd dp n t = some h') : (∃ a, rs = some a) ∧ ∃ a, rd = some a := by
  obtain ⟨a0, a, -, -, -, -, h1, h2, -⟩ := cpA_some e
  exact ⟨⟨a0, h1⟩, a, h2⟩
theorem cpQ_S {h h' : hp_T} {rs rd : Option Nat} {sp dp n : Int32} (e : cpQ_ h rs sp rd dp n = some h') : (∃ a, rs = some a) ∧ ∃ a, rd = some a := by
  obtain ⟨a0, a, -, -, -, -, h1, h2, -⟩ := cpQ_some e
  exact ⟨⟨a0, h1⟩, a, h2⟩
theorem clA_S {k : kc_T} {h : hp_T} {r : Option Nat} {t : Nat} {x : Option Nat × hp_T} (e : clA_ k h r t = some x) : ∃ a, r = some a := by
  obtain ⟨a, -, -, h, -⟩ := clA_some e
  exact ⟨a, h⟩
section RZ
variable {p : Program} {l : Launch} {e : Env} {R : Room} {s : State} {m : MethodId} {args : Array Value} {below : List Frame} {meth : Method} {c : Code} {H : Heap} {locs : List Loc} {cells slots : Nat} {Q : State → Prop}
variable {cc : ByteArray} {nL : Nat} {ret : Option FieldType} {own : String} {k : kc_T} {G : gx_T} {h0 h h' : hp_T} {fr lo : Nat} {pc : Nat} {ls : Array Slot} {rest : List Value}
theorem r_sV (C : cx_ p l R s m args meth c cc nL ret own k G h0 fr lo) (N : nw_ k G s h0 h H locs) {a : Nat} {v : Option Nat} (hv : sV_ k h (some a) = some v) {index : Nat} (hlink : Cond.fieldLink own index "java/lang/String" "value" "[B" ∈ lw_all) (hdg : decode cc pc = .ok (.getfield index, 3))
    (kk : W p l e R s m args below meth c H locs cells slots Q (F0 m (pc + 3) ls (va_rf v :: rest))) : W p l e R s m args below meth c H locs cells slots Q (F0 m pc ls (.ref a :: rest)) := by
  rcases sV_or hv with z | ⟨a', b, z, rfl, hro⟩
  · exact r_getR C N z in_J3 rfl (by decide) hlink rfl hdg kk
  · cases z
    obtain ⟨hx, hb, -, -, -, hown, hts, K, -⟩ := C
    obtain ⟨v, e1, e2, -⟩ := (K.2.2.1 a _ hro).2 rfl
    cases e1
    exact vk_getf hx hb e2 N.2.1 hown (hts _ hlink) (fun x h9 => h9) hdg kk
theorem r_sC (C : cx_ p l R s m args meth c cc nL ret own k G h0 fr lo) (N : nw_ k G s h0 h H locs) {a : Nat} {v : Int32} (hv : sC_ k h (some a) = some v) {index : Nat} (hlink : Cond.fieldLink own index "java/lang/String" "coder" "B" ∈ lw_all) (hdg : decode cc pc = .ok (.getfield index, 3))
    (kk : W p l e R s m args below meth c H locs cells slots Q (F0 m (pc + 3) ls (.int v :: rest))) : W p l e R s m args below meth c H locs cells slots Q (F0 m pc ls (.ref a :: rest)) := by
  rcases sC_or hv with z | ⟨a', b, z, rfl, hro⟩
  · exact r_getI C N z in_J3 rfl (by decide) hlink rfl hdg kk
  · cases z
    obtain ⟨hx, hb, -, -, -, hown, hts, K, -⟩ := C
    obtain ⟨v, e1, -, e2⟩ := (K.2.2.1 a _ hro).2 rfl
    exact vk_getf hx hb e2 N.2.1 hown (hts _ hlink) (fun x h9 => h9) hdg kk
/-- System.arraycopy -/
theorem r_copyA (t : Nat) {ty : FieldType} (C : cx_ p l R s m args meth c cc nL ret own k G h0 fr lo) (N : nw_ k G s h0 h H locs) {a0 a index : Nat} {sp dp n : Int32} (hv : cpA_ h (some a0) sp (some a) dp n t = some h') (ht : (tg_ G)[t]? = some (G.2.1 t, ty)) (hty : aty_ t = ty) (hprim : refKind ty = false)
    (q1 : Cond.methodLink own index arraycopyName ∈ lw_all) (q2 : Cond.native arraycopyName ∈ lw_all) (q3 : Cond.static arraycopyName ∈ lw_all) (q4 : Cond.initialized "java/lang/System" ∈ lw_all) (hsize : ls.size = nL) (hR : 1 ≤ fr ∧ 8 + (nativeFrameWords "java/lang/System" "arraycopy" 5 + 11) ≤ lo) (hrest : (rest.map fun v => v.category).sum ≤ 8) (hdg : decode cc pc = .ok (.invokestatic index, 3))
    (kk : ∀ (H1 : Heap) (locs1 : List Loc), nw_ k G s h0 h' H1 locs1 → W p l e R s m args below meth c H1 locs1 (h_sz h' - h_sz h0) (h_sl h' - h_sl h0) Q (F0 m (pc + 3) ls rest)) : W p l e R s m args below meth c H locs (h_sz h - h_sz h0) (h_sl h - h_sl h0) Q (F0 m pc ls (.int n :: .int dp :: .ref a :: .int sp :: .ref a0 :: rest)) := by
  obtain ⟨hx, hb, hml, -, -, hown, hts, K, -, rfl⟩ := C
  obtain ⟨a0', a', n0, n1, f, g, e0, e1, ho0, ho1, ⟨h1, h2, h3, h4, h5, hfit⟩, rfl⟩ := cpA_some hv
  cases e0; cases e1
  obtain ⟨-, hat0⟩ := N.1.2.2 a0 _ ho0
  obtain ⟨hba, hat1⟩ := N.1.2.2 a _ ho1
  have hc0 : H[a0]? = some (arrV (G.2.1 t) n0 (fun j => .int (f j))) := hat0
  have hc1 : H[a]? = some (arrV (G.2.1 t) n1 (fun j => .int (g j))) := hat1
  have hfit' : ∀ i, i < n.toNatClampNeg → fits ty (.int (f (sp.toNatClampNeg + i))) = true := by
    intro i hi
    have := List.all_eq_true.mp hfit i (List.mem_range.mpr hi)
    rw [fitA_, hty] at this
    exact this
  intro T hT X
  obtain ⟨-, k0, hk0, cm0, hkk0⟩ := (K.1.2 t _ ht).1 n0 (fun j => .int (f j))
  obtain ⟨-, k1, hk1, cm1, hkk1⟩ := (K.1.2 t _ ht).1 n1 (fun j => .int (g j))
  obtain ⟨vm', X', step⟩ := X.arraycopy hx hown (hts _ q1) (hts _ q2) (hts _ q3) (hts _ q4) (src := a0) (dst := a) (cs := arrV (G.2.1 t) n0 (fun j => .int (f j))) (cd := arrV (G.2.1 t) n1 (fun j => .int (g j))) (srcPos := sp) (destPos := dp) (n := n) (by rw [hT]; exact hc0) (by rw [hT]; exact hc1)
    (fun _ h => by cases h) (fun _ h => by cases h) (fun h => by cases h) (fun h => by cases h) hk0 hk1 hkk0 hkk1 (by simp [hprim]) h1 h2 h3
    (by rw [nn_ h1, nn_ h3, arrV_size]; omega)
    (by rw [nn_ h2, nn_ h3, arrV_size]; omega)
    (fun vm₁ _ i hi => by
      have e : (arrV (G.2.1 t) n0 (fun j => Value.int (f j))).slots.getD (sp.toNatClampNeg + i) .null = .int (f (sp.toNatClampNeg + i)) := by
        rw [Array.getD_eq_getD_getElem?, arrV_read _ _ (by omega)]
        rfl
      refine ⟨?_, ?_⟩
      · rw [e]
        exact hfit' i hi
      · rw [e]
        exact trivial)
    (g := F0 m pc ls (.int n :: .int dp :: .ref a :: .int sp :: .ref a0 :: rest)) rfl (by rw [hml]; exact hsize) (rest := rest) rfl (by rw [hb]; exact hdg) hR.1 (by show 2 * 0 + _ + _ ≤ lo; omega)
  have ec : copied (arrV (G.2.1 t) n0 (fun j => Value.int (f j))) (arrV (G.2.1 t) n1 (fun j => Value.int (g j))) sp dp n = arrV (G.2.1 t) n1 (fun j => .int (va_cpy f g sp.toNatClampNeg dp.toNatClampNeg n.toNatClampNeg j)) := va_copied (fun z => .int z) (G.2.1 t) (G.2.1 t) f g h4
  rw [ec] at X' step
  have hl : a < H.size := (Array.getElem?_eq_some_iff.mp hc1).1
  have oq : ∀ q : Nat, q ≠ a → (H.setIfInBounds a (arrV (G.2.1 t) n1 (fun j => .int (va_cpy f g sp.toNatClampNeg dp.toNatClampNeg n.toNatClampNeg j))))[q]? = H[q]? := fun q hq => by simp [Array.getElem?_setIfInBounds, Ne.symm hq]
  have hself : (H.setIfInBounds a (arrV (G.2.1 t) n1 (fun j => Value.int (va_cpy f g sp.toNatClampNeg dp.toNatClampNeg n.toNatClampNeg j))))[a]? = some (arrV (G.2.1 t) n1 (fun j => Value.int (va_cpy f g sp.toNatClampNeg dp.toNatClampNeg n.toNatClampNeg j))) := by simp [Array.getElem?_setIfInBounds, hl]
  have zz : (H.setIfInBounds a (arrV (G.2.1 t) n1 (fun j => .int (va_cpy f g sp.toNatClampNeg dp.toNatClampNeg n.toNatClampNeg j)))).size = H.size := by simp
  obtain ⟨t', a1, b1⟩ := kk (H.setIfInBounds a (arrV (G.2.1 t) n1 (fun j => .int (va_cpy f g sp.toNatClampNeg dp.toNatClampNeg n.toNatClampNeg j)))) _ ⟨hp_set N.1 hba zz oq hself, ⟨by rw [zz]; exact N.2.1.1, fun q g1 g2 => by
      rw [oq q (fun e => g2 (by rw [e]; exact hba))]
      exact N.2.1.2.1 q g1 g2, fun q hq => by
      rcases List.mem_append.mp hq with h | h
      · exact N.2.1.2.2 q h
      · obtain ⟨z, -, hz⟩ := List.mem_map.mp h
        rw [← hz]
        exact hba⟩, N.2.2⟩ _ (by rw [← hT]; rfl) X'
  exact ⟨t', step t' a1, b1⟩
theorem r_copyQ (C : cx_ p l R s m args meth c cc nL ret own k G h0 fr lo) (N : nw_ k G s h0 h H locs) {a0 a index : Nat} {sp dp n : Int32} (hv : cpQ_ h (some a0) sp (some a) dp n = some h')
    (q1 : Cond.methodLink own index arraycopyName ∈ lw_all) (q2 : Cond.native arraycopyName ∈ lw_all) (q3 : Cond.static arraycopyName ∈ lw_all) (q4 : Cond.initialized "java/lang/System" ∈ lw_all) (hsize : ls.size = nL) (hR : 1 ≤ fr ∧ 8 + (nativeFrameWords "java/lang/System" "arraycopy" 5 + 11) ≤ lo) (hrest : (rest.map fun v => v.category).sum ≤ 8) (hdg : decode cc pc = .ok (.invokestatic index, 3))
    (kk : ∀ (H1 : Heap) (locs1 : List Loc), nw_ k G s h0 h' H1 locs1 → W p l e R s m args below meth c H1 locs1 (h_sz h' - h_sz h0) (h_sl h' - h_sl h0) Q (F0 m (pc + 3) ls rest)) : W p l e R s m args below meth c H locs (h_sz h - h_sz h0) (h_sl h - h_sl h0) Q (F0 m pc ls (.int n :: .int dp :: .ref a :: .int sp :: .ref a0 :: rest)) := by
  obtain ⟨hx, hb, hml, -, -, hown, hts, K, -, rfl⟩ := C
  obtain ⟨a0', a', n0, n1, f, g, e0, e1, ho0, ho1, ⟨h1, h2, h3, h4, h5, hel⟩, rfl⟩ := cpQ_some hv
  cases e0; cases e1
  obtain ⟨-, hat0⟩ := N.1.2.2 a0 _ ho0
  obtain ⟨hba, hat1⟩ := N.1.2.2 a _ ho1
  have hc0 : H[a0]? = some (arrV (G.2.1 5) n0 (fun j => va_rf (f j))) := hat0
  have hc1 : H[a]? = some (arrV (G.2.1 5) n1 (fun j => va_rf (g j))) := hat1
  intro T hT X
  obtain ⟨-, k0, hk0, cm0, hkk0⟩ := (K.1.2 5 _ rfl).1 n0 (fun j => va_rf (f j))
  obtain ⟨-, k1, hk1, cm1, hkk1⟩ := (K.1.2 5 _ rfl).1 n1 (fun j => va_rf (g j))
  obtain ⟨vm', X', step⟩ := X.arraycopy hx hown (hts _ q1) (hts _ q2) (hts _ q3) (hts _ q4) (src := a0) (dst := a) (cs := arrV (G.2.1 5) n0 (fun j => va_rf (f j))) (cd := arrV (G.2.1 5) n1 (fun j => va_rf (g j))) (srcPos := sp) (destPos := dp) (n := n) (by rw [hT]; exact hc0) (by rw [hT]; exact hc1)
    (fun _ h => by cases h) (fun _ h => by cases h) (fun h => by cases h) (fun h => by cases h) hk0 hk1 hkk0 hkk1 rfl h1 h2 h3
    (by rw [nn_ h1, nn_ h3, arrV_size]; omega)
    (by rw [nn_ h2, nn_ h3, arrV_size]; omega)
    (fun vm₁ hal i hi => by
      have e : (arrV (G.2.1 5) n0 (fun j => va_rf (f j))).slots.getD (sp.toNatClampNeg + i) .null = va_rf (f (sp.toNatClampNeg + i)) := by
        rw [Array.getD_eq_getD_getElem?, arrV_read _ _ (by omega)]
        rfl
      rw [e]
      have hok := List.all_eq_true.mp hel i (List.mem_range.mpr hi)
      cases hy : f (sp.toNatClampNeg + i) with
      | none => exact ⟨rfl, trivial⟩
      | some y =>
        rw [hy] at hok
        simp only [okQ_] at hok
        cases hyo : h.1 y with
        | none => rw [hyo] at hok; cases hok
        | some o =>
          rw [hyo] at hok
          cases o with
          | inl x => simp at hok
          | inr o =>
            obtain ⟨ci, fs⟩ := o
            have hci : ci = 1 := by simpa using hok
            subst hci
            obtain ⟨-, r, hr1, cellV, g1, g2, g3, -⟩ := N.1.2.2 y _ hyo
            cases hr1
            obtain ⟨kA, comp, r1, r2, r3, -⟩ := (K.1.2 5 _ rfl).2
            cases hk1.symm.trans r1
            cases hkk1.symm.trans r2
            have hfc := (K.1.1 1 _ rfl).2.1
            cases hfc.symm.trans r3
            obtain ⟨kC, hkC, -⟩ := Vm.findClass_spec r3
            obtain ⟨kC', hkC', -⟩ := hal.2.2 _ _ hkC
            refine ⟨rfl, cellV, (show T.heap[y]? = some cellV by rw [hT]; exact g1), (fun q h => by rw [g3] at h; cases h), ⟨kC', by rw [g2]; exact hkC'⟩, ?_, ?_⟩
            · exact ⟨kC', hkC'⟩
            · rw [g2]
              exact ass_self _ _)
    (g := F0 m pc ls (.int n :: .int dp :: .ref a :: .int sp :: .ref a0 :: rest)) rfl (by rw [hml]; exact hsize) (rest := rest) rfl (by rw [hb]; exact hdg) hR.1 (by show 2 * 0 + _ + _ ≤ lo; omega)
  have ec : copied (arrV (G.2.1 5) n0 (fun j => va_rf (f j))) (arrV (G.2.1 5) n1 (fun j => va_rf (g j))) sp dp n = arrV (G.2.1 5) n1 (fun j => va_rf (va_cpy f g sp.toNatClampNeg dp.toNatClampNeg n.toNatClampNeg j)) := va_copied (fun z => va_rf z) (G.2.1 5) (G.2.1 5) f g h4
  rw [ec] at X' step
  have hl : a < H.size := (Array.getElem?_eq_some_iff.mp hc1).1
  have oq : ∀ q : Nat, q ≠ a → (H.setIfInBounds a (arrV (G.2.1 5) n1 (fun j => va_rf (va_cpy f g sp.toNatClampNeg dp.toNatClampNeg n.toNatClampNeg j))))[q]? = H[q]? := fun q hq => by simp [Array.getElem?_setIfInBounds, Ne.symm hq]
  have hself : (H.setIfInBounds a (arrV (G.2.1 5) n1 (fun j => va_rf (va_cpy f g sp.toNatClampNeg dp.toNatClampNeg n.toNatClampNeg j))))[a]? = some (arrV (G.2.1 5) n1 (fun j => va_rf (va_cpy f g sp.toNatClampNeg dp.toNatClampNeg n.toNatClampNeg j))) := by simp [Array.getElem?_setIfInBounds, hl]
  have zz : (H.setIfInBounds a (arrV (G.2.1 5) n1 (fun j => va_rf (va_cpy f g sp.toNatClampNeg dp.toNatClampNeg n.toNatClampNeg j)))).size = H.size := by simp
  obtain ⟨t', a1, b1⟩ := kk (H.setIfInBounds a (arrV (G.2.1 5) n1 (fun j => va_rf (va_cpy f g sp.toNatClampNeg dp.toNatClampNeg n.toNatClampNeg j)))) _ ⟨hp_set N.1 hba zz oq hself, ⟨by rw [zz]; exact N.2.1.1, fun q g1 g2 => by
      rw [oq q (fun e => g2 (by rw [e]; exact hba))]
      exact N.2.1.2.1 q g1 g2, fun q hq => by
      rcases List.mem_append.mp hq with h | h
      · exact N.2.1.2.2 q h
      · obtain ⟨z, -, hz⟩ := List.mem_map.mp h
        rw [← hz]
        exact hba⟩, N.2.2⟩ _ (by rw [← hT]; rfl) X'
  exact ⟨t', step t' a1, b1⟩
/-- clone of an array of a small type -/
theorem r_clone (t : Nat) {ty : FieldType} (C : cx_ p l R s m args meth c cc nL ret own k G h0 fr lo) (N : nw_ k G s h0 h H locs) {a index : Nat} {b : Option Nat} (hv : clA_ k h (some a) t = some (b, h')) (ht : (tg_ G)[t]? = some (G.2.1 t, ty)) (hty : aty_ t = ty) {ad : String} (hnm : s.vm.findClass ad = some (G.2.1 t))
    (q1 : Cond.methodLink own index ⟨ad, "clone", "()Ljava/lang/Object;"⟩ ∈ lw_all) (q2 : Cond.sameMethod ad "java/lang/Object" "clone" "()Ljava/lang/Object;" ∈ lw_all) (q3 : Cond.native ⟨"java/lang/Object", "clone", "()Ljava/lang/Object;"⟩ ∈ lw_all) (q4 : Cond.instanceMethod ⟨"java/lang/Object", "clone", "()Ljava/lang/Object;"⟩ ∈ lw_all) (q5 : Cond.selects ad ⟨ad, "clone", "()Ljava/lang/Object;"⟩ ⟨"java/lang/Object", "clone", "()Ljava/lang/Object;"⟩ ∈ lw_all) (q6 : Cond.castable ad "java/lang/Cloneable" ∈ nw_L)
    (hsize : ls.size = nL) (hR : 1 ≤ fr ∧ 22 ≤ lo) (hrest : (rest.map fun v => v.category).sum ≤ 8) (hdg : decode cc pc = .ok (.invokevirtual index, 3))
    (kk : ∀ H1, nw_ k G s h0 h' H1 locs → W p l e R s m args below meth c H1 locs (h_sz h' - h_sz h0) (h_sl h' - h_sl h0) Q (F0 m (pc + 3) ls (va_rf b :: rest))) : W p l e R s m args below meth c H locs (h_sz h - h_sz h0) (h_sl h - h_sl h0) Q (F0 m pc ls (.ref a :: rest)) := by
  obtain ⟨a', n, f, e0, ho, hlim, hfit, e1⟩ := clA_some hv
  cases e0; cases e1
  obtain ⟨⟨hc1, hs1⟩, ec, es⟩ := lim_ C N hlim
  obtain ⟨hx, hb, hml, -, -, hown, hts, K, -, rfl⟩ := C
  obtain ⟨hba, hat⟩ := N.1.2.2 a _ ho
  have hat : H[a]? = some (arrV (G.2.1 t) n (fun j => .int (f j))) := hat
  obtain ⟨c0, t0, f1, f2, f3⟩ := Cond.castable_spec (va_Nw.use (A := args) rfl (K.2.2.2.1.2.1.1 _ q6))
  cases hnm.symm.trans f1
  intro T hT X
  have hcellT : T.heap[a]? = some (arrV (G.2.1 t) n (fun j => .int (f j))) := by rw [hT]; exact hat
  obtain ⟨-, kA, hkA, comp, hkind⟩ := State.isArrayOf_alike X.warmed.alike ((K.1.2 t _ ht).1 0 (fun _ => .null))
  obtain ⟨-, kS, hkS, compS, hkindS⟩ := (K.1.2 t _ ht).1 0 (fun _ => .null)
  obtain ⟨vm', X', st⟩ := X.cloneArray hx hown (hts _ q1) (hts _ q2) (hts _ q3) (hts _ q4) (hts _ q5) (a := a) (cell := arrV (G.2.1 t) n (fun j => .int (f j))) hcellT (fun k h => by cases h) (fun h => by cases h) hnm f2 f3
    (fun i v hv => by
      have hk' : T.vm.classes[G.2.1 t]? = some kA := hkA
      have hi : i < n := by
        have := (Array.getElem?_eq_some_iff.mp hv).1
        rw [arrV_size] at this
        exact this
      rw [arrV_read _ _ hi] at hv
      cases hv
      have := List.all_eq_true.mp hfit i (List.mem_range.mpr hi)
      rw [fitA_, hty] at this
      show State.fitsSlot T (G.2.1 t) _ _ _ = true
      simpa [State.fitsSlot, State.slotType?, hk', hkind] using this)
    (g := F0 m pc ls (.ref a :: rest)) rfl (by rw [hml]; exact hsize) rfl (by rw [hb]; exact hdg) hR.1 (by show 2 * 0 + _ + 14 ≤ lo; omega) hc1 (by rw [arrV_size]; exact hs1) (hloader := Vm.clonesLoader_of_array hkS hkindS)
  rw [arrV_size] at X'
  generalize hH1 : H.push (arrV (G.2.1 t) n (fun j => .int (f j))) = H1
  have z1 : H1.size = H.size + 1 := by rw [← hH1, Array.size_push]
  have e1 : H1[H.size]? = some (arrV (G.2.1 t) n (fun j => .int (f j))) := by rw [← hH1, Array.getElem?_push_size]
  have o1 : ∀ q : Nat, q < H.size → H1[q]? = H[q]? := fun q hq => by rw [← hH1, Array.getElem?_push, if_neg (Nat.ne_of_lt hq)]
  have hk := kk H1 ⟨hp_push N.1 hlim z1 o1 (by show H1[h_sz h]? = some (arrV (G.2.1 t) n (fun j => .int (f j))); rw [N.1.1]; exact e1), va_S_push N.2.1 z1 o1, Nat.le_trans N.2.2 (Nat.le_add_right _ _)⟩
  rw [ec, es] at X'
  obtain ⟨t', b1, b2⟩ := hk ((T.setVm vm').pushCell (arrV (G.2.1 t) n (fun j => .int (f j)))) (by rw [← hH1, ← hT]; rfl) X'
  refine ⟨t', st t' ?_, b2⟩
  rw [hT, ← N.1.1]
  exact b1
end RZ
