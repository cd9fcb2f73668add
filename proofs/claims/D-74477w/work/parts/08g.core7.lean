set_option maxRecDepth 100000
/-! CORE 7: instanceof; a call whose words lie beside the tables -/
theorem sel_same {args : Array Value} {s : State} {ref owner n d C : String} {y : MethodName} (h1 : (Cond.sameMethod ref owner n d).before args s = true) (h2 : (Cond.selects C ⟨owner, n, d⟩ y).before args s = true) (ho : owner ≠ "java/lang/invoke/MethodHandle" ∧ owner ≠ "java/lang/invoke/VarHandle") : (Cond.selects C ⟨ref, n, d⟩ y).before args s = true := by
  simp only [Cond.before, Cond.holds, Cond.value] at h1 h2 ⊢
  cases hf : s.vm.findClass ref with
  | none => rw [hf] at h1; simp at h1
  | some c =>
    cases hm : s.methodFound? ref n d with
    | none => rw [hf, hm] at h1; simp at h1
    | some r =>
      cases hn : s.methodNamed? ⟨owner, n, d⟩ with
      | none => rw [hf, hm, hn] at h1; simp at h1
      | some m =>
        rw [hf, hm, hn] at h1
        have hr : r = m := by
          simp at h1
          exact h1.1
        subst hr
        have h3 : s.methodFound? owner n d = some r := State.methodFound?_of_named hn ho
        rw [h3] at h2
        exact h2
section H7
variable {Γ : Cx} {M : Mx} {h : Hp} {k pc : Nat} {L : List (Nat × Value)} {st : List Value} {cc : ByteArray} {own : String}
theorem r_inst {C : String} {T : u_T} {N ci index a : Nat} (F : FX Γ M cc own) (hc : Cl[ci]? = some (C, T, N)) (w : Cond.classLink own index C ∈ lw_all) (d : decode cc pc = .ok (.instanceof index, 3)) (ho : isO Γ h a ci) (kk : AW Γ M h k (pc + 3) L (.int (nI 1) :: st)) : AW Γ M h k pc L (.ref a :: st) := by
  obtain ⟨fs, ha⟩ := ho
  refine s_W (fun H locs cells slots ls h1 h2 kw => ?_) kk
  obtain ⟨cell, q1, q2, q3⟩ := recv_at F h1 h2 hc ha
  intro T0 hT X
  obtain ⟨vm', X', st2⟩ := X.instanceofYes F.1 F.2.2.2.1 (F.2.2.2.2.1 _ w) (by rw [hT]; exact q1) q2 q3 (va_asg _ _) (g := F0 (mM M) pc ls (.ref a :: st)) rfl rfl (by rw [F.2.1]; exact d)
  obtain ⟨t, a1, b1⟩ := kw (T0.setVm vm') hT X'
  exact ⟨t, st2 t a1, b1⟩
theorem r_callAX {C owner : String} {T : u_T} {N ci d' u index : Nat} {x y : MethodName} {bytes : ByteArray} {maxL : Nat} {ret : Option FieldType} {a : Nat} (As : List Value) {n : Nat} {P : Option Value → Hp → Prop} (F : FX Γ M cc own) (hc : Cl[ci]? = some (C, T, N)) (w1 : Cond.methodLink own index x ∈ xSel) (w2 : Cond.sameMethod x.cls owner x.name x.desc ∈ xSel) (w3 : Cond.selects C ⟨owner, x.name, x.desc⟩ y ∈ lw_all) (w4 : Cond.instanceMethod y ∈ lw_all) (w5 : Cond.initialized y.cls ∈ lw_all) (w6 : Cond.code y bytes maxL ret ∈ lw_all) (hz : Cond.declares ⟨owner, x.name, x.desc⟩ ∈ lw_tbl)
    (hy : owner ≠ "java/lang/invoke/MethodHandle" ∧ owner ≠ "java/lang/invoke/VarHandle" ∧ (parseMethodDescriptor x.desc).map (fun d => d.parameters.length) = some n) {dd : Nat} (hD : mD M = dd) (hd : d' + 1 ≤ dd) (hm : maxL ≤ 44) (d : decode cc pc = .ok (.invokevirtual index, 3)) (hn : As.length = n) (hst : (st.map fun v => v.category).sum ≤ 8)
    (ho : isO Γ h a ci) (C0 : Con Γ d' u (y, bytes, maxL, ret) (.ref a :: As) h P) {k' : Nat} (hu : k' + u ≤ k) (kk : ∀ v h', P v h' → AW Γ M h' k' (pc + 3) L (v.toList ++ st)) {st0 : List Value} (hs0 : st0 = As.reverse ++ .ref a :: st) : AW Γ M h k pc L st0 := by
  obtain ⟨fs, ha⟩ := ho
  have hx : ∀ w ∈ xSel, w.before (mA M) (mS M) = true := fun w hw => va_Nw.use (xSel_tab w hw) (show va_Nw _ (mS M) from F.2.2.2.2.2.1.2.2.2.2.2.2.2.2.2.1 _ hw)
  have hsel := sel_same (hx _ w2) (F.2.2.2.2.1 _ w3) ⟨hy.1, hy.2.1⟩
  have hR := room_le (M := M) (hD ▸ hd) hm u (mU M)
  refine r_call hu (fun H locs cells slots ls h1 h2 h3 h4 h5 => run_of (av := .ref a :: As) ?_) kk
  have cw : va_CU (rmm (mD M) (mU M)) (mS M) (mA M) own C owner index x y bytes maxL ret (ws_ y bytes maxL ret) (rmm d' u) u u n := by
    refine ⟨⟨rfl, rfl, hR.1, hR.2, pay_in F.2.2.2.2.1 (lw_meth w6), List.mem_cons_self⟩, F.2.2.2.2.1 _ w6, F.2.2.2.2.1 _ w5, ⟨hy.1, hy.2.1⟩, fun sig h => ?_, hx _ w1, hx _ w2, va_Decl.abs (show va_Nw _ (mS M) from F.2.2.2.2.2.1.2.2.2.2.1 _ hz rfl), hsel, F.2.2.2.2.1 _ w4⟩
    have h2 := hy.2.2
    rw [h] at h2
    exact (Option.some.inj h2).symm
  exact va_runU ⟨F.1, F.2.1, F.2.2.1, F.2.2.2.1, F.2.2.2.2.1⟩ C0 cw ⟨PcOf.blind, recv_at F h1 h2 hc ha, PcOf.at F.2.2.2.2.2.1 h1 h2⟩ rfl hn h5.1 hs0 (lv_room hst) d ⟨h3, h4⟩
end H7
