set_option maxRecDepth 100000
/-! CORE 6: contracts that return or throw a Fault -/
def isF (h : Hp) (q : Nat) : Prop := ∃ fs, h q = some (.inr (ciX4, fs))
def XOf (Γ : Cx) (X : Nat → Hp → Prop) : String → Addr → State → State → Prop := fun E q st t => (E = "FilingChains$Fault" ∧ ∃ h', isF h' q ∧ X q h' ∧ Rep Γ h' t.heap) ∧ va_F (fun q => cxB Γ ≤ q) st t
def ConX (Γ : Cx) (d u : Nat) (mi : MI) (av : List Value) (h : Hp) (P : Option Value → Hp → Prop) (X : Nat → Hp → Prop) : Prop :=
  vx_Met Γ.1 mi.1 (ws_ mi.1 mi.2.1 mi.2.2.1 mi.2.2.2) (rmm d u) (PcOf Γ av h) (QcOf Γ P) (XOf Γ X) u u (fun q => cxB Γ ≤ q)
def RTX (Γ : Cx) (M : Mx) (ret : Option FieldType) (P : Option Value → Hp → Prop) (X : Nat → Hp → Prop) : Prop := (mMe M).sig.returnType = ret ∧ mQ M = vx_MQ (mF M) (QcOf Γ P) (XOf Γ X) (mA M) (mS M) (mU M) (mU M) (fun q => cxB Γ ≤ q) ∧ ∀ x ∈ (mC M).exceptionTable.toList, False
theorem ConX.of {Γ : Cx} {d u : Nat} {y : MethodName} {cc : ByteArray} {maxL : Nat} {ret : Option FieldType} {av : List Value} {h : Hp} {P : Option Value → Hp → Prop} {X : Nat → Hp → Prop} (hy : plainName y.cls = true) (hn : (lg_sl av).length ≤ maxL)
    (body : ∀ M : Mx, mD M = d → mU M = u → mN M = maxL → (mMe M).name = y.name → FX Γ M cc y.cls → RTX Γ M ret P X → AW Γ M h u 0 (lv_args 0 av) []) : ConX Γ d u (y, cc, maxL, ret) av h P X := by
  refine vx_ofW (cc := cc) (maxL := maxL) (ret := ret) hy rfl ?_
  intro p e s m args below meth c s₁ B hml htab hv
  obtain ⟨rfl, hS, hR⟩ := hv
  have hts := atoms_spec (ws := ws_ y cc maxL ret) B.pre
  have hl := lv_entry av (n := maxL) hn
  have hA := body (p, e, d, u, s, m, av.toArray, below, meth, c, maxL, vx_MQ below (QcOf Γ P) (XOf Γ X) av.toArray s u u (fun q => cxB Γ ≤ q)) rfl rfl rfl (name_of_methodNamed B.named B.method).1
    ⟨B.exec, B.bytes, hml, findClass_of_methodNamed B.named, fun w h => hts w (List.mem_cons_of_mem _ h), hS, B.notSynchronized⟩ ⟨B.returns, rfl, htab⟩
  have hW := hA s.heap [] 0 0 _ hR va_S.rf (Nat.le_of_eq (Nat.zero_add u)) (Nat.le_of_eq (Nat.zero_add u)) hl
  have e1 := lg_entry_eq m av maxL
  rw [e1]
  exact hW
section XROWS
variable {Γ : Cx} {M : Mx} {h : Hp} {k pc : Nat} {L : List (Nat × Value)} {st : List Value} {cc : ByteArray} {own : String} {P : Option Value → Hp → Prop} {X : Nat → Hp → Prop} {ret : Option FieldType}
/-- a return: as from a method that doesn't throw -/
theorem r_swap (F : FX Γ M cc own) (r : RTX Γ M ret P X) (kk : ∀ M' : Mx, FX Γ M' cc own → RT Γ M' ret P → AW Γ M' h k pc L st) : AW Γ M h k pc L st := by
  obtain ⟨r1, r2, r3⟩ := r
  intro H locs cells slots ls h1 h2 h3 h4 h5
  have hw := kk (mP M, mE M, mD M, mU M, mS M, mM M, mA M, mF M, mMe M, mC M, mN M, MQ (mF M) (QcOf Γ P) (mA M) (mS M) (mU M) (mU M) (fun q => cxB Γ ≤ q)) F ⟨r1, rfl⟩ H locs cells slots ls h1 h2 h3 h4 h5
  unfold WM
  rw [r2]
  exact vx_ret hw
theorem fault_cell {q : Nat} {h' : Hp} {H : Heap} {s : State} (hs : SI Γ s) (hr : Rep Γ h' H) (hf : isF h' q) : ∃ ce : Cell, H[q]? = some ce ∧ ce.vm = .none ∧ s.vm.findClass "FilingChains$Fault" = some ce.cls := by
  obtain ⟨fs, hq⟩ := hf
  obtain ⟨r, g1, cell, q1, q2, q3, q4⟩ := (hr q _ hq).2
  have hr' : r = Cl[ciX4] := (Option.some.inj g1).symm
  subst hr'
  refine ⟨cell, q1, q3, ?_⟩
  rw [q2]
  exact (hs.1.1 ciX4 _ g1).2.1
/-- q is thrown and goes on to the caller -/
theorem r_out {q : Nat} (F : FX Γ M cc own) (r : RTX Γ M ret P X) (hf : isF h q) (hx : X q h) {H : Heap} {locs : List Loc} {cells slots : Nat} {ls : Array Slot} (h1 : Rep Γ h H) (h2 : va_S (fun q => cxB Γ ≤ q) (mS M).heap H locs) (h3 : cells ≤ mU M) (h4 : slots ≤ mU M) :
    vx_W (mP M) Γ.1 (mE M) (rmm (mD M) (mU M)) (mS M) (mM M) (mA M) (mF M) (mMe M) (mC M) H locs cells slots (mQ M) (F0 (mM M) pc ls st) q := by
  obtain ⟨r1, r2, r3⟩ := r
  rw [r2]
  obtain ⟨ce, c1, c2, c3⟩ := fault_cell F.2.2.2.2.2.1 h1 hf
  exact vx_out (E := "FilingChains$Fault") (fun x hx => (r3 x hx).elim) F.2.2.2.2.2.2 c1 c2 c3 (fun t ht _ => ⟨⟨rfl, h, hf, hx, by rw [ht]; exact h1⟩, h2.F ht⟩) (fun z hz => h2.2.2 z hz) h3 h4
theorem r_athrow {q : Nat} (F : FX Γ M cc own) (r : RTX Γ M ret P X) (d : decode cc pc = .ok (.athrow, 1)) (hf : isF h q) (hx : X q h) : AW Γ M h k pc L (.ref q :: st) := by
  intro H locs cells slots ls h1 h2 h3 h4 h5
  exact vx_athrow F.1 F.2.1 d (r_out F r hf hx h1 h2 (by omega) (by omega))
/-- a call that returns or throws; thrown: what holds -/
def CRunX (Γ : Cx) (M : Mx) (pc : Nat) (ls : Array Slot) (st0 st : List Value) (P : Option Value → Hp → Prop) (X : Nat → Hp → Prop) (H : Heap) (locs : List Loc) (cells slots u : Nat) : Prop :=
  vx_Run (mP M) Γ.1 (mE M) (rmm (mD M) (mU M)) (mS M) (mM M) (mA M) (mF M) (mMe M) (mC M) H locs cells slots u u (F0 (mM M) pc ls st0) st (QcOf Γ P #[]) (XOf Γ X) (fun q => cxB Γ ≤ q)
theorem r_callX {st0 : List Value} {u : Nat} {P' : Option Value → Hp → Prop} {X' : Nat → Hp → Prop} {k' : Nat} (hu : k' + u ≤ k) (run : ∀ (H : Heap) (locs : List Loc) (cells slots : Nat) (ls : Array Slot), Rep Γ h H → va_S (fun q => cxB Γ ≤ q) (mS M).heap H locs → cells + u ≤ mU M → slots + u ≤ mU M → lv_has ls (mN M) L → CRunX Γ M pc ls st0 st P' X' H locs cells slots u)
    (kk : ∀ v h', P' v h' → AW Γ M h' k' (pc + 3) L (v.toList ++ st))
    (kx : ∀ q h', X' q h' → isF h' q → ∀ (H : Heap) (locs : List Loc) (cells slots : Nat) (ls : Array Slot), Rep Γ h' H → va_S (fun q => cxB Γ ≤ q) (mS M).heap H locs → cells + k' ≤ mU M → slots + k' ≤ mU M → lv_has ls (mN M) L → vx_W (mP M) Γ.1 (mE M) (rmm (mD M) (mU M)) (mS M) (mM M) (mA M) (mF M) (mMe M) (mC M) H locs cells slots (mQ M) (F0 (mM M) pc ls st) q) : AW Γ M h k pc L st0 := by
  intro H locs cells slots ls h1 h2 h3 h4 h5 T hT X0
  have key : ∀ (t : State) (T' : State) (Ls : List Loc) (st₀ : State), st₀.heap = H → T'.heap = t.heap → va_F (fun q => cxB Γ ≤ q) st₀ t → (∀ q ∈ Ls, cxB Γ ≤ q.base) → va_S (fun q => cxB Γ ≤ q) (mS M).heap T'.heap (locs ++ Ls) := by
    intro t T' Ls st₀ e0 e1 hF hL
    obtain ⟨hz, hkp⟩ := hF
    rw [e0] at hz hkp
    exact ⟨Nat.le_trans h2.1 (by rw [e1]; exact hz), fun q g1 g2 => by rw [e1, hkp q (Nat.lt_of_lt_of_le g1 h2.1) g2]; exact h2.2.1 q g1 g2, fun q hq => by
      rcases List.mem_append.mp hq with g | g
      · exact h2.2.2 q g
      · exact hL q g⟩
  rcases run H locs cells slots ls h1 h2 (by omega) (by omega) h5 T hT X0 with ⟨v, st₀, t, T', Ls, e0, X', hL, e1, e2, ⟨⟨v', h', hv, hp, hr⟩, hF⟩, go⟩ | ⟨q, st₀, t, T', Ls, E, ce, e0, X', hL, e1, e2, ⟨⟨-, h', hf, hx, hr⟩, hF⟩, hce, hcv, hcl, st1⟩
  · cases hv
    obtain ⟨t2, a1, b1⟩ := aw_k (kk v h' hp) (locs := locs ++ Ls) (by rw [e1]; exact hr) (key t T' Ls st₀ e0 e1 hF hL) (cells := cells + u) (slots := slots + u) (by omega) (by omega) h5 T' rfl X'
    exact ⟨t2, go t2 a1, b1⟩
  · obtain ⟨t2, a1, b1⟩ := kx q h' hx hf T'.heap (locs ++ Ls) (cells + u) (slots + u) ls (by rw [e1]; exact hr) (key t T' Ls st₀ e0 e1 hF hL) (by omega) (by omega) h5 T' rfl X'
    exact ⟨t2, st1.trans a1, b1⟩
theorem r_callVX {C : String} {T : u_T} {N ci d' u index : Nat} {y : MethodName} {bytes : ByteArray} {maxL : Nat} {ret' : Option FieldType} {a : Nat} (As : List Value) {n : Nat} {P' : Option Value → Hp → Prop} {X' : Nat → Hp → Prop} (F : FX Γ M cc own) (r : RTX Γ M ret P X) (hc : Cl[ci]? = some (C, T, N)) (w1 : Cond.methodLink own index y ∈ lw_all) (w2 : Cond.instanceMethod y ∈ lw_all) (w3 : Cond.selects C y y ∈ lw_all) (w4 : Cond.initialized C ∈ lw_all) (w5 : Cond.code y bytes maxL ret' ∈ lw_all)
    (hy : y.cls = C ∧ y.cls ≠ "java/lang/invoke/MethodHandle" ∧ y.cls ≠ "java/lang/invoke/VarHandle" ∧ (parseMethodDescriptor y.desc).map (fun d => d.parameters.length) = some n) {dd : Nat} (hD : mD M = dd) (hd : d' + 1 ≤ dd) (hm : maxL ≤ 44) (d : decode cc pc = .ok (.invokevirtual index, 3)) (hn : As.length = n) (hst : (st.map fun v => v.category).sum ≤ 8)
    (ho : isO Γ h a ci) (C0 : ConX Γ d' u (y, bytes, maxL, ret') (.ref a :: As) h P' X') {k' : Nat} (hu : k' + u ≤ k) (kx : ∀ q h', X' q h' → X q h') (kk : ∀ v h', P' v h' → AW Γ M h' k' (pc + 3) L (v.toList ++ st)) {st0 : List Value} (hs0 : st0 = As.reverse ++ .ref a :: st) : AW Γ M h k pc L st0 := by
  obtain ⟨fs, ha⟩ := ho
  refine r_callX (X' := X') hu (fun H locs cells slots ls h1 h2 h3 h4 h5 => ?_) kk (fun q h' hx hf H locs cells slots ls h1 h2 h3 h4 h5 => r_out F r hf (kx q h' hx) h1 h2 (by omega) (by omega))
  exact vx_runV ⟨F.1, F.2.1, F.2.2.1, F.2.2.2.1, F.2.2.2.2.1⟩ C0 (cwV n F.2.2.2.2.1 (lw_V w1 w2 w3 w4 w5) rfl rfl rfl hy (room_le (hD ▸ hd) hm _ _)) ⟨PcOf.blind, recv_at F h1 h2 hc ha, PcOf.at F.2.2.2.2.2.1 h1 h2⟩ rfl hn h5.1 hs0 (lv_room hst) d ⟨h3, h4⟩
/-- .. caught here, by the one row of the table -/
theorem r_callVC {C : String} {T : u_T} {N ci d' u index : Nat} {y : MethodName} {bytes : ByteArray} {maxL : Nat} {ret' : Option FieldType} {a : Nat} (As : List Value) {n : Nat} {P' : Option Value → Hp → Prop} {X' : Nat → Hp → Prop} (F : FX Γ M cc own) (x : ExceptionTableEntry) (hx1 : (mC M).exceptionTable.toList = [x]) (hx2 : covers x pc = true) (hx3 : x.catchType ≠ 0) (hx4 : Cond.classLink own x.catchType "FilingChains$Fault" ∈ lw_all) (hx5 : Cond.castable "FilingChains$Fault" "FilingChains$Fault" ∈ lw_tbl) (hc : Cl[ci]? = some (C, T, N)) (w1 : Cond.methodLink own index y ∈ lw_all) (w2 : Cond.instanceMethod y ∈ lw_all) (w3 : Cond.selects C y y ∈ lw_all) (w4 : Cond.initialized C ∈ lw_all) (w5 : Cond.code y bytes maxL ret' ∈ lw_all)
    (hy : y.cls = C ∧ y.cls ≠ "java/lang/invoke/MethodHandle" ∧ y.cls ≠ "java/lang/invoke/VarHandle" ∧ (parseMethodDescriptor y.desc).map (fun d => d.parameters.length) = some n) {dd : Nat} (hD : mD M = dd) (hd : d' + 1 ≤ dd) (hm : maxL ≤ 44) (d : decode cc pc = .ok (.invokevirtual index, 3)) (hn : As.length = n) (hst : (st.map fun v => v.category).sum ≤ 8)
    (ho : isO Γ h a ci) (C0 : ConX Γ d' u (y, bytes, maxL, ret') (.ref a :: As) h P' X') {k' : Nat} (hu : k' + u ≤ k) (kx : ∀ q h', X' q h' → isF h' q → AW Γ M h' k' x.handlerPc L [.ref q]) (kk : ∀ v h', P' v h' → AW Γ M h' k' (pc + 3) L (v.toList ++ st)) {st0 : List Value} (hs0 : st0 = As.reverse ++ .ref a :: st) : AW Γ M h k pc L st0 := by
  obtain ⟨fs, ha⟩ := ho
  refine r_callX (X' := X') hu (fun H locs cells slots ls h1 h2 h3 h4 h5 => ?_) kk (fun q h' hx hf H locs cells slots ls h1 h2 h3 h4 h5 => ?_)
  · exact vx_runV ⟨F.1, F.2.1, F.2.2.1, F.2.2.2.1, F.2.2.2.2.1⟩ C0 (cwV n F.2.2.2.2.1 (lw_V w1 w2 w3 w4 w5) rfl rfl rfl hy (room_le (hD ▸ hd) hm _ _)) ⟨PcOf.blind, recv_at F h1 h2 hc ha, PcOf.at F.2.2.2.2.2.1 h1 h2⟩ rfl hn h5.1 hs0 (lv_room hst) d ⟨h3, h4⟩
  · obtain ⟨ce, c1, c2, c3⟩ := fault_cell F.2.2.2.2.2.1 h1 hf
    have hcast : (Cond.castable "FilingChains$Fault" "FilingChains$Fault").before (mA M) (mS M) = true := va_Nw.use rfl (show va_Nw _ (mS M) from F.2.2.2.2.2.1.2.2.2.2.1 _ hx5 rfl)
    exact vx_catch F.2.2.2.1 [] x [] hx1 (fun z hz => nomatch hz) hx2 hx3 (F.2.2.2.2.1 _ hx4) hcast c1 c2 c3 (aw_k (kx q h' hx hf) h1 h2 h3 h4 h5)
end XROWS
/-- a method with a handler of its own, that returns -/
def ConW (Γ : Cx) (hh : List (Nat × Nat × Nat × Nat)) (d u : Nat) (mi : MI) (av : List Value) (h : Hp) (P : Option Value → Hp → Prop) : Prop :=
  Met Γ.1 mi.1 (wsW_ mi.1 mi.2.1 mi.2.2.1 mi.2.2.2 hh) (rmm d u) (PcOf Γ av h) (QcOf Γ P) u u (fun q => cxB Γ ≤ q)
theorem ConW.of {Γ : Cx} {hh : List (Nat × Nat × Nat × Nat)} {d u : Nat} {y : MethodName} {cc : ByteArray} {maxL : Nat} {ret : Option FieldType} {av : List Value} {h : Hp} {P : Option Value → Hp → Prop} (hy : plainName y.cls = true) (hn : (lg_sl av).length ≤ maxL)
    (body : ∀ M : Mx, mD M = d → mU M = u → mN M = maxL → (mC M).exceptionTable.toList = tableOf hh → FX Γ M cc y.cls → RT Γ M ret P → AW Γ M h u 0 (lv_args 0 av) []) : ConW Γ hh d u (y, cc, maxL, ret) av h P := by
  unfold ConW Met
  refine MetFree.of_bodyS (code := cc) (maxLocals := maxL) (ret := ret) hy ?_ ?_
  · intro args s m h hn
    obtain ⟨m9, meth, c, hn9, h1, h2, h3, h4, -, h5, h6, -⟩ := Cond.codeWith_spec (atoms_spec (ws := wsW_ y cc maxL ret hh) h _ List.mem_cons_self)
    cases hn.symm.trans hn9
    exact ⟨meth, c, h1, h2, h3, h4, h5, h6⟩
  · intro p e s m args below meth c s₁ B hml hv _
    obtain ⟨rfl, hS, hR⟩ := hv
    have hts := atoms_spec (ws := wsW_ y cc maxL ret hh) B.pre
    have hl := lv_entry av (n := maxL) hn
    have htb := vx_table (x := y) B (hts _ List.mem_cons_self)
    have hA := body (p, e, d, u, s, m, av.toArray, below, meth, c, maxL, MQ below (QcOf Γ P) av.toArray s u u (fun q => cxB Γ ≤ q)) rfl rfl rfl htb
      ⟨B.exec, B.bytes, hml, findClass_of_methodNamed B.named, fun w h => hts w (List.mem_cons_of_mem _ h), hS, B.notSynchronized⟩ ⟨B.returns, rfl⟩
    have hW := hA s.heap [] 0 0 _ hR va_S.rf (Nat.le_of_eq (Nat.zero_add u)) (Nat.le_of_eq (Nat.zero_add u)) hl
    have e1 := lg_entry_eq m av maxL
    have hh0 : s₁.heap = s.heap := by rw [B.state]; rfl
    have hW2 : W p Γ.1 e (rmm d u) s m av.toArray below meth c s.heap [] 0 0 (MQ below (QcOf Γ P) av.toArray s u u (fun q => cxB Γ ≤ q)) (entryFrame m av.toArray maxL) := by
      rw [e1]
      exact hW
    obtain ⟨t, a1, o, b1, b2, b3⟩ := hW2 s₁ hh0 (Stand.of_body B)
    exact ⟨t, o, a1, b1, b2, ⟨b3.1, b3.2⟩⟩
section XROWS2
variable {Γ : Cx} {M : Mx} {h : Hp} {k pc : Nat} {L : List (Nat × Value)} {st : List Value} {cc : ByteArray} {own : String}
theorem r_callVW {hh : List (Nat × Nat × Nat × Nat)} {C : String} {T : u_T} {N ci d' u index : Nat} {y : MethodName} {bytes : ByteArray} {maxL : Nat} {ret : Option FieldType} {a : Nat} (As : List Value) {n : Nat} {P : Option Value → Hp → Prop} (F : FX Γ M cc own) (hc : Cl[ci]? = some (C, T, N)) (w1 : Cond.methodLink own index y ∈ lw_all) (w2 : Cond.instanceMethod y ∈ lw_all) (w3 : Cond.selects C y y ∈ lw_all) (w4 : Cond.initialized C ∈ lw_all) (w5 : Cond.codeWith y bytes maxL ret hh ∈ lw_all)
    (hy : y.cls = C ∧ y.cls ≠ "java/lang/invoke/MethodHandle" ∧ y.cls ≠ "java/lang/invoke/VarHandle" ∧ (parseMethodDescriptor y.desc).map (fun d => d.parameters.length) = some n) {dd : Nat} (hD : mD M = dd) (hd : d' + 1 ≤ dd) (hm : maxL ≤ 44) (d : decode cc pc = .ok (.invokevirtual index, 3)) (hn : As.length = n) (hst : (st.map fun v => v.category).sum ≤ 8)
    (ho : isO Γ h a ci) (C0 : ConW Γ hh d' u (y, bytes, maxL, ret) (.ref a :: As) h P) {k' : Nat} (hu : k' + u ≤ k) (kk : ∀ v h', P v h' → AW Γ M h' k' (pc + 3) L (v.toList ++ st)) {st0 : List Value} (hs0 : st0 = As.reverse ++ .ref a :: st) : AW Γ M h k pc L st0 := by
  obtain ⟨fs, ha⟩ := ho
  refine r_call hu (fun H locs cells slots ls h1 h2 h3 h4 h5 => run_of (av := .ref a :: As) ?_) kk
  exact vx_runVW (hh := hh) (C := C) ⟨F.1, F.2.1, F.2.2.1, F.2.2.2.1, F.2.2.2.2.1⟩ C0 (vx_cwVW n F.2.2.2.2.1 (lw_VW w1 w2 w3 w4 w5) rfl rfl rfl hy (room_le (hD ▸ hd) hm _ _)) ⟨PcOf.blind, recv_at F h1 h2 hc ha, PcOf.at F.2.2.2.2.2.1 h1 h2⟩ rfl hn h5.1 hs0 (lv_room hst) d ⟨h3, h4⟩
end XROWS2
abbrev CXi (Γ : Cx) (d u : Nat) (mi : MI) (av : List Value) (h : Hp) (Q : Int32 → Hp → Prop) (X : Nat → Hp → Prop) : Prop := ConX Γ d u mi av h (fun v h' => ∃ x, v = some (.int x) ∧ Q x h') X
abbrev CXr (Γ : Cx) (d u : Nat) (mi : MI) (av : List Value) (h : Hp) (Q : Nat → Hp → Prop) (X : Nat → Hp → Prop) : Prop := ConX Γ d u mi av h (fun v h' => ∃ x, v = some (.ref x) ∧ Q x h') X
abbrev CXv (Γ : Cx) (d u : Nat) (mi : MI) (av : List Value) (h : Hp) (Q : Hp → Prop) (X : Nat → Hp → Prop) : Prop := ConX Γ d u mi av h (fun v h' => v = none ∧ Q h') X
def kXi (Γ : Cx) (d : Nat) (mi : MI) (av : List Value) (h : Hp) (k : Nat) (X : Nat → Hp → Prop) (K : Int32 → Hp → Nat → Prop) : Prop := ∃ u k' Q X', k' + u ≤ k ∧ CXi Γ d u mi av h Q X' ∧ (∀ q h', X' q h' → X q h') ∧ ∀ x h', Q x h' → K x h' k'
def kXr (Γ : Cx) (d : Nat) (mi : MI) (av : List Value) (h : Hp) (k : Nat) (X : Nat → Hp → Prop) (K : Nat → Hp → Nat → Prop) : Prop := ∃ u k' Q X', k' + u ≤ k ∧ CXr Γ d u mi av h Q X' ∧ (∀ q h', X' q h' → X q h') ∧ ∀ x h', Q x h' → K x h' k'
def kXv (Γ : Cx) (d : Nat) (mi : MI) (av : List Value) (h : Hp) (k : Nat) (X : Nat → Hp → Prop) (K : Hp → Nat → Prop) : Prop := ∃ u k' Q X', k' + u ≤ k ∧ CXv Γ d u mi av h Q X' ∧ (∀ q h', X' q h' → X q h') ∧ ∀ h', Q h' → K h' k'
/-- a call that is caught here -/
def kXc (Γ : Cx) (d : Nat) (mi : MI) (av : List Value) (h : Hp) (k : Nat) (KX : Nat → Hp → Nat → Prop) (K : Hp → Nat → Prop) : Prop := ∃ u k' Q X', k' + u ≤ k ∧ CXv Γ d u mi av h Q X' ∧ (∀ q h', X' q h' → isF h' q → KX q h' k') ∧ ∀ h', Q h' → K h' k'
