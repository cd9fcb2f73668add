set_option maxRecDepth 100000
/-! CORE 5: natives and specials -/
def aOc (Γ : Cx) (_h : Hp) (a : Nat) (i : Int32) (K : Option Nat → Prop) : Prop := ∃ n f, cxK Γ a = some (.inl (cxA Γ 5, n, .inr (.inr (.inr (.inr f))))) ∧ vp_in i n ∧ K (f i.toNatClampNeg)
/-- arraycopy between int or byte arrays, between Object[]s -/
def cpI (Γ : Cx) (h : Hp) (t a0 : Nat) (sp : Int32) (a : Nat) (dp n : Int32) (K : Hp → Prop) : Prop := ∃ n0 f n1 g, look Γ h a0 = some (.inl (cxA Γ t, n0, .inl f)) ∧ h a = some (.inl (cxA Γ t, n1, .inl g)) ∧ ¬ sp < 0 ∧ ¬ dp < 0 ∧ ¬ n < 0 ∧ sp.toNatClampNeg + n.toNatClampNeg ≤ n0 ∧ dp.toNatClampNeg + n.toNatClampNeg ≤ n1 ∧ (t = 1 → ∀ i : Nat, i < n.toNatClampNeg → fits .byte (.int (f (sp.toNatClampNeg + i))) = true) ∧
  K (hup h a (.inl (cxA Γ t, n1, .inl (va_cpy f g sp.toNatClampNeg dp.toNatClampNeg n.toNatClampNeg))))
def cpO (Γ : Cx) (h : Hp) (a0 : Nat) (sp : Int32) (a : Nat) (dp n : Int32) (K : Hp → Prop) : Prop := ∃ n0 f n1 g, look Γ h a0 = some (.inl (cxA Γ 4, n0, .inr (.inr (.inr (.inr f))))) ∧ h a = some (.inl (cxA Γ 4, n1, .inr (.inr (.inr (.inr g))))) ∧ ¬ sp < 0 ∧ ¬ dp < 0 ∧ ¬ n < 0 ∧ sp.toNatClampNeg + n.toNatClampNeg ≤ n0 ∧ dp.toNatClampNeg + n.toNatClampNeg ≤ n1 ∧ (∀ i : Nat, i < n.toNatClampNeg → isE Γ h (f (sp.toNatClampNeg + i))) ∧
  K (hup h a (.inl (cxA Γ 4, n1, .inr (.inr (.inr (.inr (va_cpy f g sp.toNatClampNeg dp.toNatClampNeg n.toNatClampNeg)))))))
theorem cp_nn : ∀ z : Int32, ¬ z < 0 → z.toInt = (z.toNatClampNeg : Int) := by
  intro z hz
  have hz0 : (0 : Int) ≤ z.toInt := by
    have := Int32.not_lt.mp hz
    simpa using Int32.le_iff_toInt_le.mp this
  show z.toInt = ((z.toInt.toNat : Nat) : Int)
  omega
section H5
variable {Γ : Cx} {M : Mx} {h : Hp} {k pc : Nat} {L : List (Nat × Value)} {st : List Value} {cc : ByteArray} {own : String}
theorem r_aaldC (F : FX Γ M cc own) (d : decode cc pc = .ok (.aaload, 1)) {a : Nat} {i : Int32} {K : Option Nat → Prop} (hw : aOc Γ h a i K) (kk : ∀ x, K x → AW Γ M h k (pc + 1) L (va_rf x :: st)) : AW Γ M h k pc L (.int i :: .ref a :: st) := by
  obtain ⟨n, f, ha, hi, hK⟩ := hw
  intro H locs cells slots ls h1 h2 h3 h4 h5
  obtain ⟨cell, q1, q2, q3, q4, q5, q6⟩ := arr_k (t := 5) F.2.2.2.2.2.1 h2 rfl ha
  have hlt : i.toNatClampNeg < n := Nat.not_le.mp fun q => hi (Or.inr q)
  exact W.aald F.1 F.2.1 q1 q2 rfl q3 (fun q => hi (q.elim Or.inl (fun q => absurd q (by omega)))) (q6 _ hlt) rfl rfl d (aw_k (kk _ hK) h1 h2 h3 h4 h5)
theorem r_mmax {index : Nat} (F : FX Γ M cc own) (w1 : Cond.methodLink own index Lib.Math.max.name ∈ lw_all) (w2 : Cond.static Lib.Math.max.name ∈ lw_all) (w3 : Cond.initialized "java/lang/Math" ∈ lw_all) (w4 : Cond.code Lib.Math.max.name Lib.Math.max.code 2 (some .int) ∈ lw_all) {dd : Nat} (hD : mD M = dd) (hd : 1 ≤ dd) (hst : (st.map fun v => v.category).sum ≤ 8) (d : decode cc pc = .ok (.invokestatic index, 3)) {x y : Int32} (kk : AW Γ M h k (pc + 3) L (.int (if x < y then y else x) :: st)) : AW Γ M h k pc L (.int y :: .int x :: st) := by
  intro H locs cells slots ls h1 h2 h3 h4 h5
  have hd' : 1 ≤ mD M := hD ▸ hd
  exact va_mmax F.1 F.2.1 (F.2.2.1.trans h5.1.symm) F.2.2.2.1 (F.2.2.2.2.1 _ w1) (F.2.2.2.2.1 _ w2) (F.2.2.2.2.1 _ w3) (F.2.2.2.2.1 _ w4) hd' (by show _ + 13 ≤ 64 * mD M; omega) (by show cells ≤ mU M; omega) (by show slots ≤ mU M; omega) d (aw_k kk h1 h2 h3 h4 h5)
theorem r_mmin {index : Nat} (F : FX Γ M cc own) (w1 : Cond.methodLink own index Lib.Math.min.name ∈ lw_all) (w2 : Cond.static Lib.Math.min.name ∈ lw_all) (w3 : Cond.initialized "java/lang/Math" ∈ lw_all) (w4 : Cond.code Lib.Math.min.name Lib.Math.min.code 2 (some .int) ∈ lw_all) {dd : Nat} (hD : mD M = dd) (hd : 1 ≤ dd) (hst : (st.map fun v => v.category).sum ≤ 8) (d : decode cc pc = .ok (.invokestatic index, 3)) {x y : Int32} (kk : AW Γ M h k (pc + 3) L (.int (if y < x then y else x) :: st)) : AW Γ M h k pc L (.int y :: .int x :: st) := by
  intro H locs cells slots ls h1 h2 h3 h4 h5
  have hd' : 1 ≤ mD M := hD ▸ hd
  exact va_mmin F.1 F.2.1 (F.2.2.1.trans h5.1.symm) F.2.2.2.1 (F.2.2.2.2.1 _ w1) (F.2.2.2.2.1 _ w2) (F.2.2.2.2.1 _ w3) (F.2.2.2.2.1 _ w4) hd' (by show _ + 13 ≤ 64 * mD M; omega) (by show cells ≤ mU M; omega) (by show slots ≤ mU M; omega) d (aw_k kk h1 h2 h3 h4 h5)
theorem cp_words : nativeFrameWords "java/lang/System" "arraycopy" 5 + 11 ≤ 56 := by decide
theorem r_cpI {t index : Nat} {ty : FieldType} (F : FX Γ M cc own) (ht : (cxT Γ)[t]? = some (cxA Γ t, ty)) (hpr : refKind ty = false) (hty : t = 1 ∧ ty = .byte ∨ t = 0 ∧ ty = .int) (w1 : Cond.methodLink own index arraycopyName ∈ lw_all) (w2 : Cond.native arraycopyName ∈ lw_all) (w3 : Cond.static arraycopyName ∈ lw_all) (w4 : Cond.initialized "java/lang/System" ∈ lw_all) {dd : Nat} (hD : mD M = dd) (hd : 1 ≤ dd) (hst : (st.map fun v => v.category).sum ≤ 8) (d : decode cc pc = .ok (.invokestatic index, 3))
    {a0 a : Nat} {sp dp n : Int32} {K : Hp → Prop} (hw : cpI Γ h t a0 sp a dp n K) (kk : ∀ h', K h' → AW Γ M h' k (pc + 3) L st) : AW Γ M h k pc L (.int n :: .int dp :: .ref a :: .int sp :: .ref a0 :: st) := by
  obtain ⟨n0, f, n1, g, ha0, ha, g1, g2, g3, g4, g5, hfit, hK⟩ := hw
  intro H locs cells slots ls h1 h2 h3 h4 h5
  have hd' : 1 ≤ mD M := hD ▸ hd
  obtain ⟨hB, hat⟩ := h1 a _ ha
  have hc1 : H[a]? = some (vp_cell (cxA Γ t) (n1, .inl g)) := hat
  obtain ⟨scr, s1, s2, s3, s4, -, s5⟩ := arr_rd (t := t) F.2.2.2.2.2.1 h1 h2 ht ha0
  intro T hT X
  obtain ⟨s6, k0, hk0, cm0, hkk0⟩ := s2
  obtain ⟨-, k1, hk1, cm1, hkk1⟩ := (F.2.2.2.2.2.1.1.2 t _ ht).1 n1 (fun j => .int (g j))
  have hfit' : ∀ i : Nat, i < n.toNatClampNeg → fits ty (.int (f (sp.toNatClampNeg + i))) = true := by
    rcases hty with ⟨e1, e2⟩ | ⟨e1, e2⟩
    · subst e2; exact hfit e1
    · subst e2; intro i _; rfl
  obtain ⟨vm', X', step⟩ := X.arraycopy F.1 F.2.2.2.1 (F.2.2.2.2.1 _ w1) (F.2.2.2.2.1 _ w2) (F.2.2.2.2.1 _ w3) (F.2.2.2.2.1 _ w4) (src := a0) (dst := a) (cs := scr) (cd := vp_cell (cxA Γ t) (n1, .inl g)) (srcPos := sp) (destPos := dp) (n := n) (by rw [hT]; exact s1) (by rw [hT]; exact hc1)
    s6 (fun _ h => by cases h) s3 (fun h => by cases h) hk0 hk1 hkk0 hkk1 (by simp [hpr]) g1 g2 g3
    (by rw [cp_nn sp g1, cp_nn n g3]; omega)
    (by rw [cp_nn dp g2, cp_nn n g3]; show ¬ _ > ((arrV (cxA Γ t) n1 (fun j => .int (g j))).slots.size : Int); rw [arrV_size]; omega)
    (fun vm₁ _ i hi => by
      have e : scr.slots.getD (sp.toNatClampNeg + i) .null = .int (f (sp.toNatClampNeg + i)) := by
        rw [Array.getD_eq_getD_getElem?, s5 _ (by omega)]
        rfl
      refine ⟨?_, ?_⟩
      · rw [e]
        exact hfit' i hi
      · rw [e]
        exact trivial)
    (g := F0 (mM M) pc ls (.int n :: .int dp :: .ref a :: .int sp :: .ref a0 :: st)) rfl (by show ls.size = _; rw [F.2.2.1]; exact h5.1) (rest := st) rfl (by rw [F.2.1]; exact d) hd' (by have := cp_words; show 2 * 0 + _ + _ ≤ 64 * mD M; omega)
  have e1 : copied scr (vp_cell (cxA Γ t) (n1, .inl g)) sp dp n = vp_cell (cxA Γ t) (n1, .inl (va_cpy f g sp.toNatClampNeg dp.toNatClampNeg n.toNatClampNeg)) := va_copiedX (fun z => .int z) scr (cxA Γ t) f g s5 g4
  rw [e1] at X' step
  have hl : a < H.size := (Array.getElem?_eq_some_iff.mp hc1).1
  have hheap : ((T.setVm vm').setCell a (vp_cell (cxA Γ t) (n1, .inl (va_cpy f g sp.toNatClampNeg dp.toNatClampNeg n.toNatClampNeg)))).heap = H.setIfInBounds a (vp_cell (cxA Γ t) (n1, .inl (va_cpy f g sp.toNatClampNeg dp.toNatClampNeg n.toNatClampNeg))) := by rw [← hT]; rfl
  have oq : ∀ q : Nat, q ≠ a → (H.setIfInBounds a (vp_cell (cxA Γ t) (n1, .inl (va_cpy f g sp.toNatClampNeg dp.toNatClampNeg n.toNatClampNeg))))[q]? = H[q]? := fun q hq => by simp [Array.getElem?_setIfInBounds, Ne.symm hq]
  obtain ⟨t, a1, b1⟩ := aw_k (kk _ hK) (h1.up hB (show (H.setIfInBounds a _)[a]? = some _ by simp [Array.getElem?_setIfInBounds, hl]) (fun b hb _ => oq b hb)) ⟨by simp; exact h2.1, fun q z1 z2 => by
      rw [oq q (fun e => z2 (by rw [e]; exact hB))]
      exact h2.2.1 q z1 z2, fun q hq => by
      rcases List.mem_append.mp hq with z | z
      · exact h2.2.2 q z
      · obtain ⟨y, -, hy⟩ := List.mem_map.mp z
        rw [← hy]
        exact hB⟩ h3 h4 h5 _ hheap X'
  exact ⟨t, step t a1, b1⟩
theorem r_cpO {index : Nat} (F : FX Γ M cc own) (w1 : Cond.methodLink own index arraycopyName ∈ lw_all) (w2 : Cond.native arraycopyName ∈ lw_all) (w3 : Cond.static arraycopyName ∈ lw_all) (w4 : Cond.initialized "java/lang/System" ∈ lw_all) {dd : Nat} (hD : mD M = dd) (hd : 1 ≤ dd) (hst : (st.map fun v => v.category).sum ≤ 8) (d : decode cc pc = .ok (.invokestatic index, 3))
    {a0 a : Nat} {sp dp n : Int32} {K : Hp → Prop} (hw : cpO Γ h a0 sp a dp n K) (kk : ∀ h', K h' → AW Γ M h' k (pc + 3) L st) : AW Γ M h k pc L (.int n :: .int dp :: .ref a :: .int sp :: .ref a0 :: st) := by
  obtain ⟨n0, f, n1, g, ha0, ha, g1, g2, g3, g4, g5, hel, hK⟩ := hw
  intro H locs cells slots ls h1 h2 h3 h4 h5
  have hd' : 1 ≤ mD M := hD ▸ hd
  obtain ⟨hB, hat⟩ := h1 a _ ha
  have hc1 : H[a]? = some (vp_cell (cxA Γ 4) (n1, .inr (.inr (.inr (.inr g))))) := hat
  obtain ⟨scr, s1, s2, s3, s4, -, s5⟩ := arr_rd (t := 4) F.2.2.2.2.2.1 h1 h2 rfl ha0
  intro T hT X
  obtain ⟨s6, k0, hk0, cm0, hkk0⟩ := s2
  obtain ⟨-, k1, hk1, cm1, hkk1⟩ := (F.2.2.2.2.2.1.1.2 4 _ rfl).1 n1 (fun j => va_rf (g j))
  obtain ⟨vm', X', step⟩ := X.arraycopy F.1 F.2.2.2.1 (F.2.2.2.2.1 _ w1) (F.2.2.2.2.1 _ w2) (F.2.2.2.2.1 _ w3) (F.2.2.2.2.1 _ w4) (src := a0) (dst := a) (cs := scr) (cd := vp_cell (cxA Γ 4) (n1, .inr (.inr (.inr (.inr g))))) (srcPos := sp) (destPos := dp) (n := n) (by rw [hT]; exact s1) (by rw [hT]; exact hc1)
    s6 (fun _ h => by cases h) s3 (fun h => by cases h) hk0 hk1 hkk0 hkk1 rfl g1 g2 g3
    (by rw [cp_nn sp g1, cp_nn n g3]; omega)
    (by rw [cp_nn dp g2, cp_nn n g3]; show ¬ _ > ((arrV (cxA Γ 4) n1 (fun j => va_rf (g j))).slots.size : Int); rw [arrV_size]; omega)
    (fun vm₁ hal i hi => by
      have e : scr.slots.getD (sp.toNatClampNeg + i) .null = va_rf (f (sp.toNatClampNeg + i)) := by
        rw [Array.getD_eq_getD_getElem?, s5 _ (by omega)]
        rfl
      rw [e]
      cases hy : f (sp.toNatClampNeg + i) with
      | none => exact ⟨rfl, trivial⟩
      | some y =>
        obtain ⟨ci, ⟨fs, hfs⟩, hci⟩ := hel i hi y hy
        obtain ⟨r, hr⟩ : ∃ r, Cl[ci]? = some r := ⟨_, List.getElem?_eq_getElem hci⟩
        obtain ⟨C, Tt, N⟩ := r
        obtain ⟨cellV, q1, q2, q3, q4, -⟩ := obj_rd F.2.2.2.2.2.1 h1 h2 hr hfs
        obtain ⟨kA, comp, r1, r2, r3, -⟩ := (F.2.2.2.2.2.1.1.2 4 _ rfl).2
        cases hk1.symm.trans r1
        cases hkk1.symm.trans r2
        obtain ⟨kC, hkC, -⟩ := Vm.findClass_spec q4
        obtain ⟨kE, hkE, -⟩ := Vm.findClass_spec r3
        obtain ⟨kC', hkC', -⟩ := hal.2.2 _ _ hkC
        obtain ⟨kE', hkE', -⟩ := hal.2.2 _ _ hkE
        obtain ⟨c0, t1, f1, f2, f3⟩ := Cond.castable_spec (va_Nw.use (A := mA M) rfl (show va_Nw _ (mS M) from F.2.2.2.2.2.1.2.2.2.2.1 _ (cl_cast hr) rfl))
        cases q4.symm.trans f1
        cases r3.symm.trans f2
        refine ⟨rfl, cellV, (show T.heap[y]? = some cellV by rw [hT]; exact q1), (fun q h => by rw [h] at q2; cases q2), ⟨kC', hkC'⟩, ?_, ?_⟩
        · exact ⟨kE', hkE'⟩
        · show vm₁.assignable _ _ = true
          rw [hal.assignable]
          exact f3)
    (g := F0 (mM M) pc ls (.int n :: .int dp :: .ref a :: .int sp :: .ref a0 :: st)) rfl (by show ls.size = _; rw [F.2.2.1]; exact h5.1) (rest := st) rfl (by rw [F.2.1]; exact d) hd' (by have := cp_words; show 2 * 0 + _ + _ ≤ 64 * mD M; omega)
  have e1 : copied scr (vp_cell (cxA Γ 4) (n1, .inr (.inr (.inr (.inr g))))) sp dp n = vp_cell (cxA Γ 4) (n1, .inr (.inr (.inr (.inr (va_cpy f g sp.toNatClampNeg dp.toNatClampNeg n.toNatClampNeg))))) := va_copiedX (fun z => va_rf z) scr (cxA Γ 4) f g s5 g4
  rw [e1] at X' step
  have hl : a < H.size := (Array.getElem?_eq_some_iff.mp hc1).1
  have hheap : ((T.setVm vm').setCell a (vp_cell (cxA Γ 4) (n1, .inr (.inr (.inr (.inr (va_cpy f g sp.toNatClampNeg dp.toNatClampNeg n.toNatClampNeg))))))).heap = H.setIfInBounds a (vp_cell (cxA Γ 4) (n1, .inr (.inr (.inr (.inr (va_cpy f g sp.toNatClampNeg dp.toNatClampNeg n.toNatClampNeg)))))) := by rw [← hT]; rfl
  have oq : ∀ q : Nat, q ≠ a → (H.setIfInBounds a (vp_cell (cxA Γ 4) (n1, .inr (.inr (.inr (.inr (va_cpy f g sp.toNatClampNeg dp.toNatClampNeg n.toNatClampNeg)))))))[q]? = H[q]? := fun q hq => by simp [Array.getElem?_setIfInBounds, Ne.symm hq]
  obtain ⟨t, a1, b1⟩ := aw_k (kk _ hK) (h1.up hB (show (H.setIfInBounds a _)[a]? = some _ by simp [Array.getElem?_setIfInBounds, hl]) (fun b hb _ => oq b hb)) ⟨by simp; exact h2.1, fun q z1 z2 => by
      rw [oq q (fun e => z2 (by rw [e]; exact hB))]
      exact h2.2.1 q z1 z2, fun q hq => by
      rcases List.mem_append.mp hq with z | z
      · exact h2.2.2 q z
      · obtain ⟨y, -, hy⟩ := List.mem_map.mp z
        rw [← hy]
        exact hB⟩ h3 h4 h5 _ hheap X'
  exact ⟨t, step t a1, b1⟩
/-- the class object of Object[]: by a constant, by getClass() of one -/
theorem r_ldcM {index : Nat} (F : FX Γ M cc own) (w : Cond.classLink own index "[Ljava/lang/Object;" ∈ lw_all) (d : decode cc pc = .ok (.ldc index, 2)) (kk : AW Γ M h k (pc + 2) L (.ref (cxM Γ) :: st)) : AW Γ M h k pc L st :=
  s_W (fun H locs cells slots ls h1 h2 kw => va_ldcM F.1 F.2.1 F.2.2.2.1 (F.2.2.2.2.1 _ w) F.2.2.2.2.2.1.2.2.2.2.2.2.2.2.2.2.1 d kw) kk
theorem r_getC {index : Nat} (F : FX Γ M cc own) (w1 : Cond.methodLink own index ⟨"java/lang/Object", "getClass", "()Ljava/lang/Class;"⟩ ∈ lw_all) (w2 : Cond.selects "[Ljava/lang/Object;" ⟨"java/lang/Object", "getClass", "()Ljava/lang/Class;"⟩ ⟨"java/lang/Object", "getClass", "()Ljava/lang/Class;"⟩ ∈ lw_all) (w3 : Cond.instanceMethod ⟨"java/lang/Object", "getClass", "()Ljava/lang/Class;"⟩ ∈ lw_all) (w4 : Cond.native ⟨"java/lang/Object", "getClass", "()Ljava/lang/Class;"⟩ ∈ lw_all) {dd : Nat} (hD : mD M = dd) (hd : 1 ≤ dd) (hst : (st.map fun v => v.category).sum ≤ 8) (d : decode cc pc = .ok (.invokevirtual index, 3)) {a : Nat} (ho : ∃ x, h a = some (.inl (cxA Γ 4, x))) (kk : AW Γ M h k (pc + 3) L (.ref (cxM Γ) :: st)) : AW Γ M h k pc L (.ref a :: st) := by
  obtain ⟨x, ha⟩ := ho
  intro H locs cells slots ls h1 h2 h3 h4 h5
  have hd' : 1 ≤ mD M := hD ▸ hd
  have hat : H[a]? = some (vp_cell (cxA Γ 4) x) := (h1 a _ ha).2
  have hcls : (mS M).vm.findClass "[Ljava/lang/Object;" = some (cxA Γ 4) := va_nmO (F.2.2.2.2.2.1.1.2 4 _ rfl).2 rfl
  exact va_getC F.1 F.2.1 (F.2.2.1.trans h5.1.symm) F.2.2.2.1 (F.2.2.2.2.1 _ w1) (va_Dc.use F.2.2.2.2.2.1.2.2.2.2.2.2.2.2.2.2.2) (F.2.2.2.2.1 _ w2) (F.2.2.2.2.1 _ w3) (F.2.2.2.2.1 _ w4) F.2.2.2.2.2.1.2.2.2.2.2.2.2.2.2.2.1 ⟨_, hat, by obtain ⟨n, f | f | f | f | f⟩ := x <;> rfl, by rw [hcls]; obtain ⟨n, f | f | f | f | f⟩ := x <;> rfl⟩ hd' (by show _ + 14 ≤ 64 * mD M; omega) d (aw_k kk h1 h2 h3 h4 h5)
theorem r_castArr {index : Nat} (F : FX Γ M cc own) (w : Cond.classLink own index "[Ljava/lang/Object;" ∈ lw_all) (d : decode cc pc = .ok (.checkcast index, 3)) {a : Nat} (ho : ∃ x, h a = some (.inl (cxA Γ 4, x))) (kk : AW Γ M h k (pc + 3) L (.ref a :: st)) : AW Γ M h k pc L (.ref a :: st) := by
  obtain ⟨x, ha⟩ := ho
  have hcls : (mS M).vm.findClass "[Ljava/lang/Object;" = some (cxA Γ 4) := va_nmO (F.2.2.2.2.2.1.1.2 4 _ rfl).2 rfl
  exact s_W (fun H locs cells slots ls h1 h2 kw => va_castA F.1 F.2.1 F.2.2.2.1 (F.2.2.2.2.1 _ w) (vaP1 (h1 a _ ha).2) 0 rfl hcls d kw) kk
/-- a private method of a superclass, called on a subclass's object -/
theorem r_callP {C : String} {T : u_T} {N ci d' u index : Nat} {y : MethodName} {bytes : ByteArray} {maxL : Nat} {ret : Option FieldType} {a : Nat} (As : List Value) {n : Nat} {P : Option Value → Hp → Prop} (F : FX Γ M cc own) (hc : Cl[ci]? = some (C, T, N)) (w1 : Cond.methodLink own index y ∈ lw_all) (w2 : Cond.instanceMethod y ∈ lw_all) (w3 : Cond.selects C y y ∈ xSel) (w4 : Cond.initialized y.cls ∈ lw_all) (w5 : Cond.code y bytes maxL ret ∈ lw_all)
    (hy : y.cls ≠ "java/lang/invoke/MethodHandle" ∧ y.cls ≠ "java/lang/invoke/VarHandle" ∧ (parseMethodDescriptor y.desc).map (fun d => d.parameters.length) = some n) {dd : Nat} (hD : mD M = dd) (hd : d' + 1 ≤ dd) (hm : maxL ≤ 44) (d : decode cc pc = .ok (.invokevirtual index, 3)) (hn : As.length = n) (hst : (st.map fun v => v.category).sum ≤ 8)
    (ho : isO Γ h a ci) (C0 : Con Γ d' u (y, bytes, maxL, ret) (.ref a :: As) h P) {k' : Nat} (hu : k' + u ≤ k) (kk : ∀ v h', P v h' → AW Γ M h' k' (pc + 3) L (v.toList ++ st)) {st0 : List Value} (hs0 : st0 = As.reverse ++ .ref a :: st) : AW Γ M h k pc L st0 := by
  obtain ⟨fs, ha⟩ := ho
  refine r_call hu (fun H locs cells slots ls h1 h2 h3 h4 h5 => run_of (av := .ref a :: As) ?_) kk
  have hsel : (Cond.selects C y y).before (mA M) (mS M) = true := va_Nw.use rfl (show va_Nw _ (mS M) from F.2.2.2.2.2.1.2.2.2.2.2.2.2.2.2.1 _ w3)
  exact va_runV ⟨F.1, F.2.1, F.2.2.1, F.2.2.2.1, F.2.2.2.2.1⟩ C0 ⟨callB_of n F.2.2.2.2.1 (lw_meth w5) rfl rfl rfl (F.2.2.2.2.1 _ w4) (F.2.2.2.2.1 _ w1) hy (room_le (hD ▸ hd) hm _ _), F.2.2.2.2.1 _ w2, hsel⟩ ⟨PcOf.blind, recv_at F h1 h2 hc ha, PcOf.at F.2.2.2.2.2.1 h1 h2⟩ rfl hn h5.1 hs0 (lv_room hst) d ⟨h3, h4⟩
end H5
section H6
variable {Γ : Cx} {M : Mx} {h : Hp} {k pc : Nat} {L : List (Nat × Value)} {st : List Value} {cc : ByteArray} {own : String}
/-- a method of the receiver's, named by an abstract one of its superclass or interface -/
theorem r_callA {C owner : String} {T : u_T} {N ci d' u index : Nat} {x y : MethodName} {bytes : ByteArray} {maxL : Nat} {ret : Option FieldType} {a : Nat} (As : List Value) {n : Nat} {P : Option Value → Hp → Prop} (F : FX Γ M cc own) (hc : Cl[ci]? = some (C, T, N)) (hT : GoodIn lw_all (va_wsU own index C owner x y (ws_ y bytes maxL ret))) (hz : Cond.declares ⟨owner, x.name, x.desc⟩ ∈ lw_tbl)
    (hy : owner ≠ "java/lang/invoke/MethodHandle" ∧ owner ≠ "java/lang/invoke/VarHandle" ∧ (parseMethodDescriptor x.desc).map (fun d => d.parameters.length) = some n) {dd : Nat} (hD : mD M = dd) (hd : d' + 1 ≤ dd) (hm : maxL ≤ 44) (d : decode cc pc = .ok (.invokevirtual index, 3)) (hn : As.length = n) (hst : (st.map fun v => v.category).sum ≤ 8)
    (ho : isO Γ h a ci) (C0 : Con Γ d' u (y, bytes, maxL, ret) (.ref a :: As) h P) {k' : Nat} (hu : k' + u ≤ k) (kk : ∀ v h', P v h' → AW Γ M h' k' (pc + 3) L (v.toList ++ st)) {st0 : List Value} (hs0 : st0 = As.reverse ++ .ref a :: st) : AW Γ M h k pc L st0 := by
  obtain ⟨fs, ha⟩ := ho
  refine r_call hu (fun H locs cells slots ls h1 h2 h3 h4 h5 => run_of (av := .ref a :: As) ?_) kk
  exact va_runU ⟨F.1, F.2.1, F.2.2.1, F.2.2.2.1, F.2.2.2.2.1⟩ C0 (va_cwA n F.2.2.2.2.1 hT rfl rfl rfl (show va_Nw _ (mS M) from F.2.2.2.2.2.1.2.2.2.2.1 _ hz rfl) hy (room_le (hD ▸ hd) hm _ _)) ⟨PcOf.blind, recv_at F h1 h2 hc ha, PcOf.at F.2.2.2.2.2.1 h1 h2⟩ rfl hn h5.1 hs0 (lv_room hst) d ⟨h3, h4⟩
theorem x_ldcWString {p : Program} {l : Launch} {e : Env} {R : Room} {s : State} {m : MethodId} {args : Array Value} {below : List Frame} {meth : Method} {c : Code} {T : State} {locs : List Loc} {cells slots : Nat}
    (X : Stand p l e R s m args below meth c T locs cells slots) (hexec : p.tables.exec = Jvm.exec) {own text : String} {index : Nat} {a : Addr} (hown : s.vm.findClass own = some m.cls)
    (hconst : (Cond.stringRef own index text).before args s = true) (hev : (Term.string own index).eval args s none [] s = some (.ref a)) {g : JFrame} (hg : g.method = m) (hdg : decode c.code g.pc = .ok (.ldc_w index, 3)) :
    ∀ target, Steps p.tables e below (T.setTop { g with pc := g.pc + 3, stack := .ref a :: g.stack }) target → Steps p.tables e below (T.setTop g) target := by
  obtain ⟨k, cf, i, a', hk, hcf, hcp, -, hr, hev'⟩ := Cond.stringRef_spec hown hconst
  cases hev.symm.trans hev'
  obtain ⟨k', hk', he⟩ := X.warmed.alike.2.2 _ _ hk
  have hr' : k'.resolved[index]? = some (some (.string a)) := by
    rcases X.warmed.entry hk hk' index with h | ⟨h, -⟩
    · rw [h]; exact hr
    · rw [hr] at h; cases h
  intro target hrest
  subst hg
  jvm_step X.here [hexec, hdg, ldc_w.wp_string (e := e) (s := T) (f := g) X.here.top hk' (by rw [he]; exact hcf) hcp hr']
  exact hrest
theorem r_ldcwS {index : Nat} (F : FX Γ M cc own) (d : decode cc pc = .ok (.ldc_w index, 3)) {K : Nat → Prop} (hw : gLs Γ own index K) (kk : ∀ a, K a → AW Γ M h k (pc + 3) L (.ref a :: st)) : AW Γ M h k pc L st := by
  obtain ⟨tx, a, hv, hK⟩ := hw
  have hZ := F.2.2.2.2.2.1.2.2.2.2.2.2.2.2.1 _ hv
  refine s_W (fun H locs cells slots ls h1 h2 kw => ?_) (kk a hK)
  intro T hT X
  obtain ⟨t, a1, b1⟩ := kw T hT X
  have hZ : vk_R own index tx a (mS M) := hZ
  exact ⟨t, x_ldcWString X F.1 F.2.2.2.1 (text := tx) (a := a) hZ.1 hZ.2 (g := F0 (mM M) pc ls st) rfl (by rw [F.2.1]; exact d) t a1, b1⟩
end H6
theorem mem4 {a b c d : Cond} (ha : a ∈ lw_all) (hb : b ∈ lw_all) (hc : c ∈ lw_all) (hd : d ∈ lw_all) : ∀ w ∈ [a, b, c, d], w ∈ lw_all := List.forall_mem_cons.mpr ⟨ha, List.forall_mem_cons.mpr ⟨hb, List.forall_mem_cons.mpr ⟨hc, List.forall_mem_cons.mpr ⟨hd, fun _ h => absurd h List.not_mem_nil⟩⟩⟩⟩
theorem mem5 {a b c d e : Cond} (ha : a ∈ lw_all) (hb : b ∈ lw_all) (hc : c ∈ lw_all) (hd : d ∈ lw_all) (he : e ∈ lw_all) : ∀ w ∈ [a, b, c, d, e], w ∈ lw_all := List.forall_mem_cons.mpr ⟨ha, mem4 hb hc hd he⟩
theorem mem6 {a b c d e f : Cond} (ha : a ∈ lw_all) (hb : b ∈ lw_all) (hc : c ∈ lw_all) (hd : d ∈ lw_all) (he : e ∈ lw_all) (hf : f ∈ lw_all) : ∀ w ∈ [a, b, c, d, e, f], w ∈ lw_all := List.forall_mem_cons.mpr ⟨ha, mem5 hb hc hd he hf⟩
theorem rf_or (x : Option Nat) : va_rf x = .null ∨ ∃ a, va_rf x = .ref a := by
  cases x with
  | none => exact Or.inl rfl
  | some a => exact Or.inr ⟨a, rfl⟩
theorem rf_cat (x : Option Nat) : (va_rf x).category = 1 := by cases x <;> rfl
theorem rf_nar (x : Option Nat) (C : String) : narrow (.object C) (va_rf x) = va_rf x := by cases x <;> rfl
theorem rf_fit (x : Option Nat) (C : String) : fits (.object C) (va_rf x) = true := by cases x <;> rfl
/-- the locals behind a store, told one by one: for a list that holds a reference or null beside the place -/
def keepL (L : List (Nat × Value)) (i : Nat) (v : Value) : List (Nat × Value) → Prop
  | [] => True
  | (j, w) :: r => ((j = i ∧ w = v) ∨ (lkL L j = some w ∧ j ≠ i ∧ (j + 1 = i → w.category = 1))) ∧ keepL L i v r
theorem keepL_has {L L' : List (Nat × Value)} {i nL : Nat} {v : Value} {ls : Array Slot} (hk : keepL L i v L') (h : lv_has ls nL ((i, v) :: L.filter (fun q => !(q.1 == i) && !(q.1 + 1 == i && q.2.category == 2)))) : lv_has ls nL L' := by
  refine ⟨h.1, h.2.1, ?_⟩
  induction L' with
  | nil => exact fun q hq => absurd hq List.not_mem_nil
  | cons p r ih =>
    intro q hq
    rcases List.mem_cons.mp hq with e | e
    · subst e
      obtain ⟨hd, -⟩ := hk
      rcases hd with ⟨rfl, h2⟩ | ⟨h1, h2, h3⟩
      · exact h.2.2 _ (List.mem_cons.mpr (Or.inl (by rw [← h2])))
      · refine h.2.2 _ (List.mem_cons_of_mem _ (List.mem_filter.mpr ⟨lkL_mem h1, ?_⟩))
        have e1 : (q.1 == i) = false := by simpa using h2
        rw [e1]
        by_cases e2 : q.1 + 1 = i
        · rw [h3 e2]; simp
        · have : (q.1 + 1 == i) = false := by simpa using e2
          rw [this]; rfl
    · exact ih hk.2 q e
section H7
variable {Γ : Cx} {M : Mx} {h : Hp} {k pc : Nat} {L : List (Nat × Value)} {st : List Value} {cc : ByteArray} {own : String}
theorem r_istore_nX {kf : Fin 4} (i : Nat) {x : Int32} (L' : List (Nat × Value)) (F : FX Γ M cc own) (d : decode cc pc = .ok (.istore_n kf, 1)) (hi : (kf : Nat) = i) {NL : Nat} (hN : mN M = NL) (hn : i < NL) (hk : keepL L i (.int x) L') (kk : AW Γ M h k (pc + 1) L' st) : AW Γ M h k pc L (.int x :: st) :=
  fun H locs cells slots ls h1 h2 h3 h4 h5 => lv_istore_n F.1 F.2.1 d hi h5 (hN ▸ hn) rfl (fun ls h5 => kk H locs cells slots ls h1 h2 h3 h4 (keepL_has hk h5))
theorem r_istoreX (i : Nat) {x : Int32} (L' : List (Nat × Value)) (F : FX Γ M cc own) (d : decode cc pc = .ok (.istore i, 2)) {NL : Nat} (hN : mN M = NL) (hn : i < NL) (hk : keepL L i (.int x) L') (kk : AW Γ M h k (pc + 2) L' st) : AW Γ M h k pc L (.int x :: st) :=
  fun H locs cells slots ls h1 h2 h3 h4 h5 => lv_istore F.1 F.2.1 d h5 (hN ▸ hn) rfl (fun ls h5 => kk H locs cells slots ls h1 h2 h3 h4 (keepL_has hk h5))
theorem r_iincX (i : Nat) {n : Int} {x c : Int32} (L' : List (Nat × Value)) (F : FX Γ M cc own) (d : decode cc pc = .ok (.iinc i n, 3)) (hj : lkL L i = some (.int x)) {NL : Nat} (hN : mN M = NL) (hn : i < NL) (hc : Int32.ofInt n = c) (hk : keepL L i (.int (x + c)) L') (kk : AW Γ M h k (pc + 3) L' st) : AW Γ M h k pc L st := by
  subst hc
  intro H locs cells slots ls h1 h2 h3 h4 h5
  obtain ⟨j, hjj⟩ := List.getElem?_of_mem (lkL_mem hj)
  exact lv_iinc F.1 F.2.1 d h5 hjj rfl (hN ▸ hn) rfl (fun ls h5 => kk H locs cells slots ls h1 h2 h3 h4 (keepL_has hk h5))
theorem r_astoreX (i : Nat) {x : Option Nat} (L' : List (Nat × Value)) (F : FX Γ M cc own) (d : decode cc pc = .ok (.astore i, 2)) {NL : Nat} (hN : mN M = NL) (hn : i < NL) (hk : keepL L i (va_rf x) L') (kk : AW Γ M h k (pc + 2) L' st) : AW Γ M h k pc L (va_rf x :: st) := by
  cases x with
  | none => exact fun H locs cells slots ls h1 h2 h3 h4 h5 => lv_astoreN F.1 F.2.1 d h5 (hN ▸ hn) rfl (fun ls h5 => kk H locs cells slots ls h1 h2 h3 h4 (keepL_has hk h5))
  | some a => exact fun H locs cells slots ls h1 h2 h3 h4 h5 => lv_astore F.1 F.2.1 d h5 (hN ▸ hn) rfl (fun ls h5 => kk H locs cells slots ls h1 h2 h3 h4 (keepL_has hk h5))
theorem r_astore_nX {kf : Fin 4} (i : Nat) {x : Option Nat} (L' : List (Nat × Value)) (F : FX Γ M cc own) (d : decode cc pc = .ok (.astore_n kf, 1)) (hi : (kf : Nat) = i) {NL : Nat} (hN : mN M = NL) (hn : i < NL) (hk : keepL L i (va_rf x) L') (kk : AW Γ M h k (pc + 1) L' st) : AW Γ M h k pc L (va_rf x :: st) := by
  cases x with
  | none => exact fun H locs cells slots ls h1 h2 h3 h4 h5 => lv_astore_nN F.1 F.2.1 d hi h5 (hN ▸ hn) rfl (fun ls h5 => kk H locs cells slots ls h1 h2 h3 h4 (keepL_has hk h5))
  | some a => exact fun H locs cells slots ls h1 h2 h3 h4 h5 => lv_astore_n F.1 F.2.1 d hi h5 (hN ▸ hn) rfl (fun ls h5 => kk H locs cells slots ls h1 h2 h3 h4 (keepL_has hk h5))
end H7
