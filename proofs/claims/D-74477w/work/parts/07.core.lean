set_option maxRecDepth 100000
/-! CORE: an abstract heap over the machine. h: the cells that are known; a contract 'Con' says what a method does to h. -/
abbrev Hp : Type := Nat → Option va_E
def hup (h : Hp) (a : Nat) (e : va_E) : Hp := fun b => if b = a then some e else h b
theorem hup_self {h : Hp} {a : Nat} {e : va_E} : hup h a e a = some e := by simp [hup]
theorem hup_ne {h : Hp} {a b : Nat} {e : va_E} (hb : b ≠ a) : hup h a e b = h b := by simp [hup, hb]
/-- the context: launch, class ids and slots, array classes, base, constants, statics, String constants -/
abbrev Cx : Type := Launch × va_G × (Nat → ClassId) × Nat × Hp × List (String × String × String × Value) × List (String × Nat × String × Nat) × Nat
abbrev cxB (Γ : Cx) : Nat := Γ.2.2.2.1
abbrev cxD (Γ : Cx) : va_G := Γ.2.1
abbrev cxA (Γ : Cx) : Nat → ClassId := Γ.2.2.1
abbrev cxK (Γ : Cx) : Hp := Γ.2.2.2.2.1
abbrev cxS (Γ : Cx) : List (String × String × String × Value) := Γ.2.2.2.2.2.1
abbrev cxL (Γ : Cx) : List (String × Nat × String × Nat) := Γ.2.2.2.2.2.2.1
abbrev cxM (Γ : Cx) : Nat := Γ.2.2.2.2.2.2.2
abbrev cxT (Γ : Cx) : List (ClassId × FieldType) := [(cxA Γ 0, .int), (cxA Γ 1, .byte), (cxA Γ 2, .long), (cxA Γ 3, .boolean), (cxA Γ 4, .object "java/lang/Object")]
/-- words of the tables that no list carries, but any state of the run has -/
def mvW : Cond → Bool
  | .castable _ _ => true
  | .declares _ => true
  | .fieldLinkNest _ _ _ _ _ _ => true
  | .methodLinkNest _ _ _ _ => true
  | _ => false
theorem mvW_moved {w : Cond} (hw : mvW w = true) {s U : State} (hW : s.WarmedH U.vm) (h : w.before #[] s = true) : w.before #[] U = true := by
  cases w <;> first | exact va_Nw.warmC hW h | exact va_Nw.warmD hW h | exact va_Nw.warmF hW h | exact va_Nw.warmM hW h | (simp [mvW] at hw)
/-- interface calls: the receiver's class, the method named, the method chosen -/
def fwOk (x : MethodName) : Prop := x.cls ≠ "java/lang/invoke/MethodHandle" ∧ x.cls ≠ "java/lang/invoke/VarHandle"
/-- the array classes that are read: the made ones, and the boxes' cache -/
abbrev cxR (Γ : Cx) : List (ClassId × FieldType) := cxT Γ ++ [(cxA Γ 5, .object "java/lang/Integer")]
/-- an array's content at a place -/
def cV : ((Nat → Int32) ⊕ (Nat → Int64) ⊕ (Nat → UInt32) ⊕ (Nat → UInt64) ⊕ (Nat → Option Nat)) → Nat → Value
  | .inl f, j => .int (f j)
  | .inr (.inl f), j => .long (f j)
  | .inr (.inr (.inl f)), j => .float (f j)
  | .inr (.inr (.inr (.inl f))), j => .double (f j)
  | .inr (.inr (.inr (.inr f))), j => va_rf (f j)
/-- a constant cell: what can be read of it -/
def kAt (Γ : Cx) (U : State) (a : Nat) (e : va_E) (H : Heap) : Prop := match e with
  | .inl x => ∃ (cell : Cell) (t : Nat) (ty : FieldType), H[a]? = some cell ∧ (cxR Γ)[t]? = some (x.1, ty) ∧ U.isArrayOf cell ty ∧ cell.vm ≠ .unknown ∧ x.2.1 ≤ cell.slots.size ∧ cell.slots.size.toInt32 = Int32.ofNat x.2.1 ∧ ∀ j : Nat, j < x.2.1 → cell.slots[j]? = some (cV x.2.2 j)
  | .inr o => ∃ (cell : Cell) (r : vw_C), H[a]? = some cell ∧ Cl[o.1]? = some r ∧ cell.vm.isStatics = false ∧ cell.vm ≠ .unknown ∧ U.vm.findClass r.1 = some cell.cls ∧ ∀ (k : Nat) (v : Value), k < r.2.2 → o.2[k]? = some v → cell.slots[(cxD Γ).2 o.1 k]? = some v
theorem kAt.kept {Γ : Cx} {U : State} {a : Nat} {e : va_E} {H H1 : Heap} (h : kAt Γ U a e H) (hq : H1[a]? = H[a]?) : kAt Γ U a e H1 := by
  cases e with
  | inl x => obtain ⟨cell, t, ty, h1, h2⟩ := h; exact ⟨cell, t, ty, by rw [hq]; exact h1, h2⟩
  | inr o => obtain ⟨cell, r, h1, h2⟩ := h; exact ⟨cell, r, by rw [hq]; exact h1, h2⟩
theorem kAt.lt {Γ : Cx} {U : State} {a : Nat} {e : va_E} {H : Heap} (h : kAt Γ U a e H) : a < H.size := by
  cases e with
  | inl x => obtain ⟨cell, t, ty, h1, h2⟩ := h; exact (Array.getElem?_eq_some_iff.mp h1).1
  | inr o => obtain ⟨cell, r, h1, h2⟩ := h; exact (Array.getElem?_eq_some_iff.mp h1).1
theorem kAt.moved {Γ : Cx} {u U : State} {a : Nat} {e : va_E} {H : Heap} (hvm : u.vm.Alike U.vm) (h : kAt Γ u a e H) : kAt Γ U a e H := by
  cases e with
  | inl x => obtain ⟨cell, t, ty, h1, h2, h3, h4⟩ := h; exact ⟨cell, t, ty, h1, h2, State.isArrayOf_alike hvm h3, h4⟩
  | inr o => obtain ⟨cell, r, h1, h2, h3, h4, h5, h6⟩ := h; exact ⟨cell, r, h1, h2, h3, h4, by rw [hvm.findClass]; exact h5, h6⟩
/-- private methods of a superclass, as a subclass's object has them -/
def xSel : List Cond := xSelL.map (fun q => Cond.selects q.1 q.2 q.2) ++ defaultWords_1
theorem xSel_ok : ∀ w ∈ xSel, goodWord w = true := by
  intro w hw
  rcases List.mem_append.mp hw with hw | hw
  · obtain ⟨q, -, rfl⟩ := List.mem_map.mp hw
    rfl
  · simp only [defaultWords_1, List.mem_cons, List.not_mem_nil, or_false] at hw
    rcases hw with rfl | rfl <;> rfl
theorem xSel_tab : ∀ w ∈ xSel, w.onTables = true := by
  intro w hw
  rcases List.mem_append.mp hw with hw | hw
  · obtain ⟨q, -, rfl⟩ := List.mem_map.mp hw
    rfl
  · simp only [defaultWords_1, List.mem_cons, List.not_mem_nil, or_false] at hw
    rcases hw with rfl | rfl <;> rfl
def SI (Γ : Cx) (U : State) : Prop := va_K (cxD Γ) Cl (cxT Γ) U ∧ cxB Γ ≤ U.heap.size ∧ (∀ (a : Nat) (e : va_E), cxK Γ a = some e → a < cxB Γ ∧ kAt Γ U a e U.heap) ∧
  (∀ q ∈ cxS Γ, va_Z q.1 q.2.1 q.2.2.1 q.2.2.2 (fun a => cxB Γ ≤ a) U U.heap) ∧ (∀ w ∈ lw_tbl, mvW w = true → w.before #[] U = true) ∧ (∀ q ∈ fwL, va_Fw q.1 q.2.1 q.2.2 U) ∧ va_AO "java/lang/Object" U ∧
  (∀ i j : Nat, i < 6 → j < 6 → cxA Γ i = cxA Γ j → i = j) ∧ (∀ q ∈ cxL Γ, vk_R q.1 q.2.1 q.2.2.1 q.2.2.2 U) ∧ (∀ w ∈ xSel, w.before #[] U = true) ∧ va_Mi "[Ljava/lang/Object;" (cxM Γ) U ∧ va_Dc U
theorem SI.moved {Γ : Cx} {s U : State} (h : SI Γ s) (hW : s.WarmedH U.vm) (hz : s.heap.size ≤ U.heap.size) (hk : ∀ a : Nat, a < s.heap.size → ¬ cxB Γ ≤ a → U.heap[a]? = s.heap[a]?) : SI Γ U := by
  obtain ⟨h1, h2, h3, h4, h5, h6, h7, h8, h9, h10, h11, h12⟩ := h
  refine ⟨va_K.moved hW.alike h1, Nat.le_trans h2 hz, fun a e he => ⟨(h3 a e he).1, ((h3 a e he).2.moved hW.alike).kept (hk a (Nat.lt_of_lt_of_le (h3 a e he).1 h2) (Nat.not_le.mpr (h3 a e he).1))⟩, fun q hq => ?_, fun w hw hm => mvW_moved hm hW (h5 w hw hm), fun q hq => va_Fw.moved (fwL_ok q hq) hW.alike (h6 q hq), va_AO.moved hW.alike h7, h8, fun q hq => vk_R.warm hW (h9 q hq), fun w hw => word_at (a' := #[]) hW (good_of_word (xSel_ok w hw)) (h10 w hw), va_Mi.moved hW.alike h11, va_Dc.moved hW.alike h12⟩
  exact (va_Z.moved hW.alike (h4 q hq)).kept (fun a h1 h2 => hk a h1 h2)
theorem SI.same {Γ : Cx} {s U : State} (h : SI Γ s) (e1 : U.vm = s.vm) (e2 : U.heap = s.heap) : SI Γ U := by
  obtain ⟨h1, h2, h3, h4, h5, h6, h7, h8, h9, h10, h11, h12⟩ := h
  have al : s.vm.Alike U.vm := by rw [e1]; exact Vm.Alike.refl _
  refine ⟨va_K.moved al h1, by rw [e2]; exact h2, fun a e he => ⟨(h3 a e he).1, by rw [e2]; exact (h3 a e he).2.moved al⟩, fun q hq => by rw [e2]; exact va_Z.moved al (h4 q hq), fun w hw hm => ?_, fun q hq => va_Fw.moved (fwL_ok q hq) al (h6 q hq), va_AO.moved al h7, h8, fun q hq => vk_R.same e1 (h9 q hq), fun w hw => va_Nw.same (xSel_tab w hw) e1.symm (h10 w hw), va_Mi.moved al h11, va_Dc.moved al h12⟩
  have := h5 w hw hm
  cases w <;> first | exact va_Nw.same rfl e1.symm this | (simp [mvW] at hm)
def Rep (Γ : Cx) (h : Hp) (H : Heap) : Prop := ∀ (a : Nat) (e : va_E), h a = some e → cxB Γ ≤ a ∧ va_at (cxD Γ) Cl (a, e) H
theorem Rep.fresh {Γ : Cx} {h : Hp} {H : Heap} (hr : Rep Γ h H) : h H.size = none := by
  cases he : h H.size with
  | none => rfl
  | some e => exact absurd (hr _ e he).2.lt (Nat.lt_irrefl _)
theorem Rep.up {Γ : Cx} {h : Hp} {H H1 : Heap} {a : Nat} {e : va_E} (hr : Rep Γ h H) (hB : cxB Γ ≤ a) (he : va_at (cxD Γ) Cl (a, e) H1) (hk : ∀ b : Nat, b ≠ a → b < H.size → H1[b]? = H[b]?) : Rep Γ (hup h a e) H1 := by
  intro b x hx
  by_cases hb : b = a
  · subst hb
    rw [hup_self] at hx
    cases hx
    exact ⟨hB, he⟩
  · rw [hup_ne hb] at hx
    exact ⟨(hr b x hx).1, (hr b x hx).2.kept (hk b hb (hr b x hx).2.lt)⟩
/-- a cell, mutable or constant -/
def look (Γ : Cx) (h : Hp) (a : Nat) : Option va_E := match h a with
  | some e => some e
  | none => cxK Γ a
theorem look_h {Γ : Cx} {h : Hp} {a : Nat} {e : va_E} (he : h a = some e) : look Γ h a = some e := by simp [look, he]
abbrev Mx : Type := Program × Env × Nat × Nat × State × MethodId × Array Value × List Frame × Method × Code × Nat × (State → Prop)
abbrev mP (M : Mx) : Program := M.1
abbrev mE (M : Mx) : Env := M.2.1
abbrev mD (M : Mx) : Nat := M.2.2.1
abbrev mU (M : Mx) : Nat := M.2.2.2.1
abbrev mS (M : Mx) : State := M.2.2.2.2.1
abbrev mM (M : Mx) : MethodId := M.2.2.2.2.2.1
abbrev mA (M : Mx) : Array Value := M.2.2.2.2.2.2.1
abbrev mF (M : Mx) : List Frame := M.2.2.2.2.2.2.2.1
abbrev mMe (M : Mx) : Method := M.2.2.2.2.2.2.2.2.1
abbrev mC (M : Mx) : Code := M.2.2.2.2.2.2.2.2.2.1
abbrev mN (M : Mx) : Nat := M.2.2.2.2.2.2.2.2.2.2.1
abbrev mQ (M : Mx) : State → Prop := M.2.2.2.2.2.2.2.2.2.2.2
def rmm (d u : Nat) : Room := { frames := d, cells := u, slots := u, locals := 64 * d }
abbrev WM (Γ : Cx) (M : Mx) (H : Heap) (locs : List Loc) (cells slots : Nat) (g : JFrame) : Prop := W (mP M) Γ.1 (mE M) (rmm (mD M) (mU M)) (mS M) (mM M) (mA M) (mF M) (mMe M) (mC M) H locs cells slots (mQ M) g
def AW (Γ : Cx) (M : Mx) (h : Hp) (k pc : Nat) (L : List (Nat × Value)) (st : List Value) : Prop :=
  ∀ (H : Heap) (locs : List Loc) (cells slots : Nat) (ls : Array Slot), Rep Γ h H → va_S (fun q => cxB Γ ≤ q) (mS M).heap H locs → cells + k ≤ mU M → slots + k ≤ mU M → lv_has ls (mN M) L → WM Γ M H locs cells slots (F0 (mM M) pc ls st)
def FX (Γ : Cx) (M : Mx) (cc : ByteArray) (own : String) : Prop :=
  (mP M).tables.exec = Jvm.exec ∧ (mC M).code = cc ∧ (mC M).maxLocals = mN M ∧ (mS M).vm.findClass own = some (mM M).cls ∧ (∀ w ∈ lw_all, w.before (mA M) (mS M) = true) ∧ SI Γ (mS M) ∧ (mMe M).locks = false
def QcOf (Γ : Cx) (P : Option Value → Hp → Prop) : Array Value → State → Outcome → State → Prop := fun _ st oc t => (∃ (v : Option Value) (h' : Hp), oc = .returned v ∧ P v h' ∧ Rep Γ h' t.heap) ∧ va_F (fun q => cxB Γ ≤ q) st t
/-- the method's end: what it answers, and the frame's last place -/
def RT (Γ : Cx) (M : Mx) (ret : Option FieldType) (P : Option Value → Hp → Prop) : Prop := (mMe M).sig.returnType = ret ∧ mQ M = MQ (mF M) (QcOf Γ P) (mA M) (mS M) (mU M) (mU M) (fun q => cxB Γ ≤ q)
/-- a method: its name, its code, its locals, what it answers -/
abbrev MI : Type := MethodName × ByteArray × Nat × Option FieldType
def PcOf (Γ : Cx) (av : List Value) (h : Hp) : Array Value → State → Prop := va_Pc av (fun U => SI Γ U ∧ Rep Γ h U.heap)
def Con (Γ : Cx) (d u : Nat) (mi : MI) (av : List Value) (h : Hp) (P : Option Value → Hp → Prop) : Prop :=
  Met Γ.1 mi.1 (ws_ mi.1 mi.2.1 mi.2.2.1 mi.2.2.2) (rmm d u) (PcOf Γ av h) (QcOf Γ P) u u (fun q => cxB Γ ≤ q)
theorem PcOf.blind {Γ : Cx} {av : List Value} {h : Hp} : FrameBlind (PcOf Γ av h) := by
  intro a U g mk hp
  obtain ⟨e1, h1, h2⟩ := hp
  exact ⟨e1, h1.same rfl rfl, h2⟩
theorem PcOf.at {Γ : Cx} {s : State} {H : Heap} {locs : List Loc} {av : List Value} {h : Hp} (hs : SI Γ s) (hr : Rep Γ h H) (hS : va_S (fun q => cxB Γ ≤ q) s.heap H locs) : ∀ U : State, U.heap = H → s.WarmedH U.vm → PcOf Γ av h av.toArray U := by
  intro U hU hW
  refine ⟨rfl, hs.moved hW (by rw [hU]; exact hS.1) (fun a h1 h2 => by rw [hU]; exact hS.2.1 a h1 h2), by rw [hU]; exact hr⟩
theorem Con.of {Γ : Cx} {d u : Nat} {y : MethodName} {cc : ByteArray} {maxL : Nat} {ret : Option FieldType} {av : List Value} {h : Hp} {P : Option Value → Hp → Prop} (hy : plainName y.cls = true) (hn : (lg_sl av).length ≤ maxL)
    (body : ∀ M : Mx, mD M = d → mU M = u → mN M = maxL → (mMe M).name = y.name → FX Γ M cc y.cls → RT Γ M ret P → AW Γ M h u 0 (lv_args 0 av) []) : Con Γ d u (y, cc, maxL, ret) av h P := by
  refine Met.ofW (cc := cc) (maxL := maxL) (ret := ret) hy rfl ?_
  intro p e s m args below meth c s₁ B hml hv
  obtain ⟨rfl, hS, hR⟩ := hv
  have hts := atoms_spec (ws := ws_ y cc maxL ret) B.pre
  have hl := lv_entry av (n := maxL) hn
  have hA := body (p, e, d, u, s, m, av.toArray, below, meth, c, maxL, MQ below (QcOf Γ P) av.toArray s u u (fun q => cxB Γ ≤ q)) rfl rfl rfl (name_of_methodNamed B.named B.method).1
    ⟨B.exec, B.bytes, hml, findClass_of_methodNamed B.named, fun w h => hts w (List.mem_cons_of_mem _ h), hS, B.notSynchronized⟩ ⟨B.returns, rfl⟩
  have hW := hA s.heap [] 0 0 _ hR va_S.rf (Nat.le_of_eq (Nat.zero_add u)) (Nat.le_of_eq (Nat.zero_add u)) hl
  have e1 := lg_entry_eq m av maxL
  rw [e1]
  exact hW
section ROWS
variable {Γ : Cx} {M : Mx} {h : Hp} {k pc pc' : Nat} {L : List (Nat × Value)} {st st' : List Value} {cc : ByteArray} {own : String}
theorem r_lift (f : ∀ (H : Heap) (locs : List Loc) (cells slots : Nat) (ls : Array Slot), WM Γ M H locs cells slots (F0 (mM M) pc' ls st') → WM Γ M H locs cells slots (F0 (mM M) pc ls st)) (kk : AW Γ M h k pc' L st') : AW Γ M h k pc L st :=
  fun H locs cells slots ls h1 h2 h3 h4 h5 => f H locs cells slots ls (kk H locs cells slots ls h1 h2 h3 h4 h5)
def lkL : List (Nat × Value) → Nat → Option Value
  | [], _ => none
  | (j, v) :: r, i => if j = i then some v else lkL r i
theorem lkL_mem : ∀ {L : List (Nat × Value)} {i : Nat} {v : Value}, lkL L i = some v → (i, v) ∈ L
  | (j, w) :: r, i, v, h => by
    unfold lkL at h
    split at h
    · rename_i e
      subst e
      cases h
      exact List.mem_cons_self
    · exact List.mem_cons_of_mem _ (lkL_mem h)
abbrev stL (L : List (Nat × Value)) (i : Nat) (v : Value) : List (Nat × Value) := (i, v) :: L.filter (fun q => !(q.1 == i) && !(q.1 + 1 == i && q.2.category == 2))
abbrev stL2 (L : List (Nat × Value)) (i : Nat) (v : Value) : List (Nat × Value) := (i, v) :: L.filter (fun q => !(q.1 == i) && (!(q.1 == i + 1) && !(q.1 + 1 == i && q.2.category == 2)))
def allL (L : List (Nat × Value)) : List (Nat × Value) → Prop
  | [] => True
  | (i, v) :: r => lkL L i = some v ∧ allL L r
theorem allL_mem {L : List (Nat × Value)} : ∀ {L' : List (Nat × Value)}, allL L L' → ∀ q ∈ L', q ∈ L
  | (i, v) :: r, h, q, hq => by
    rcases List.mem_cons.mp hq with e | e
    · rw [e]
      exact lkL_mem h.1
    · exact allL_mem h.2 q e
/-- fewer locals known -/
theorem r_weak {L' : List (Nat × Value)} (hl : allL L L') (kk : AW Γ M h k pc L' st) : AW Γ M h k pc L st :=
  fun H locs cells slots ls h1 h2 h3 h4 h5 => kk H locs cells slots ls h1 h2 h3 h4 ⟨h5.1, h5.2.1, fun q hq => h5.2.2 q (allL_mem hl q hq)⟩
theorem lk_at {ls : Array Slot} {nL : Nat} {i : Nat} {v : Value} (h : lv_has ls nL L) (hj : lkL L i = some v) : ls[i]? = some (.val v) := h.2.2 (i, v) (lkL_mem hj)
theorem r_iadd {x y : Int32} (F : FX Γ M cc own) (d : decode cc pc = .ok (.iadd, 1))  (kk : AW Γ M h k (pc + 1) L (.int (x + y) :: st)) : AW Γ M h k pc L (.int y :: .int x :: st) :=
  r_lift (fun _ _ _ _ _ k => lv_iadd F.1 F.2.1 d  k) kk
theorem r_isub {x y : Int32} (F : FX Γ M cc own) (d : decode cc pc = .ok (.isub, 1))  (kk : AW Γ M h k (pc + 1) L (.int (x - y) :: st)) : AW Γ M h k pc L (.int y :: .int x :: st) :=
  r_lift (fun _ _ _ _ _ k => lv_isub F.1 F.2.1 d  k) kk
theorem r_imul {x y : Int32} (F : FX Γ M cc own) (d : decode cc pc = .ok (.imul, 1))  (kk : AW Γ M h k (pc + 1) L (.int (x * y) :: st)) : AW Γ M h k pc L (.int y :: .int x :: st) :=
  r_lift (fun _ _ _ _ _ k => lv_imul F.1 F.2.1 d  k) kk
theorem r_iand {x y : Int32} (F : FX Γ M cc own) (d : decode cc pc = .ok (.iand, 1))  (kk : AW Γ M h k (pc + 1) L (.int (x &&& y) :: st)) : AW Γ M h k pc L (.int y :: .int x :: st) :=
  r_lift (fun _ _ _ _ _ k => lv_iand F.1 F.2.1 d  k) kk
theorem r_ior {x y : Int32} (F : FX Γ M cc own) (d : decode cc pc = .ok (.ior, 1))  (kk : AW Γ M h k (pc + 1) L (.int (x ||| y) :: st)) : AW Γ M h k pc L (.int y :: .int x :: st) :=
  r_lift (fun _ _ _ _ _ k => lv_ior F.1 F.2.1 d  k) kk
theorem r_ixor {x y : Int32} (F : FX Γ M cc own) (d : decode cc pc = .ok (.ixor, 1))  (kk : AW Γ M h k (pc + 1) L (.int (x ^^^ y) :: st)) : AW Γ M h k pc L (.int y :: .int x :: st) :=
  r_lift (fun _ _ _ _ _ k => lv_ixor F.1 F.2.1 d  k) kk
theorem r_ishl {x y : Int32} (F : FX Γ M cc own) (d : decode cc pc = .ok (.ishl, 1))  (kk : AW Γ M h k (pc + 1) L (.int (x <<< (y &&& 31)) :: st)) : AW Γ M h k pc L (.int y :: .int x :: st) :=
  r_lift (fun _ _ _ _ _ k => lv_ishl F.1 F.2.1 d  k) kk
theorem r_ishr {x y : Int32} (F : FX Γ M cc own) (d : decode cc pc = .ok (.ishr, 1))  (kk : AW Γ M h k (pc + 1) L (.int (x >>> (y &&& 31)) :: st)) : AW Γ M h k pc L (.int y :: .int x :: st) :=
  r_lift (fun _ _ _ _ _ k => lv_ishr F.1 F.2.1 d  k) kk
theorem r_idiv {x y : Int32} (F : FX Γ M cc own) (d : decode cc pc = .ok (.idiv, 1)) (hne : ¬ y = 0) (kk : AW Γ M h k (pc + 1) L (.int (x / y) :: st)) : AW Γ M h k pc L (.int y :: .int x :: st) :=
  r_lift (fun _ _ _ _ _ k => lv_idiv F.1 F.2.1 d hne k) kk
theorem r_irem {x y : Int32} (F : FX Γ M cc own) (d : decode cc pc = .ok (.irem, 1)) (hne : ¬ y = 0) (kk : AW Γ M h k (pc + 1) L (.int (x - x / y * y) :: st)) : AW Γ M h k pc L (.int y :: .int x :: st) :=
  r_lift (fun _ _ _ _ _ k => lv_irem F.1 F.2.1 d hne k) kk
theorem r_ineg {x : Int32} (F : FX Γ M cc own) (d : decode cc pc = .ok (.ineg, 1))  (kk : AW Γ M h k (pc + 1) L (.int (-x) :: st)) : AW Γ M h k pc L (.int x :: st) :=
  r_lift (fun _ _ _ _ _ k => lv_ineg F.1 F.2.1 d  k) kk
theorem r_ladd {x y : Int64} (F : FX Γ M cc own) (d : decode cc pc = .ok (.ladd, 1))  (kk : AW Γ M h k (pc + 1) L (.long (x + y) :: st)) : AW Γ M h k pc L (.long y :: .long x :: st) :=
  r_lift (fun _ _ _ _ _ k => lv_ladd F.1 F.2.1 d  k) kk
theorem r_lsub {x y : Int64} (F : FX Γ M cc own) (d : decode cc pc = .ok (.lsub, 1))  (kk : AW Γ M h k (pc + 1) L (.long (x - y) :: st)) : AW Γ M h k pc L (.long y :: .long x :: st) :=
  r_lift (fun _ _ _ _ _ k => lv_lsub F.1 F.2.1 d  k) kk
theorem r_lmul {x y : Int64} (F : FX Γ M cc own) (d : decode cc pc = .ok (.lmul, 1))  (kk : AW Γ M h k (pc + 1) L (.long (x * y) :: st)) : AW Γ M h k pc L (.long y :: .long x :: st) :=
  r_lift (fun _ _ _ _ _ k => lv_lmul F.1 F.2.1 d  k) kk
theorem r_land {x y : Int64} (F : FX Γ M cc own) (d : decode cc pc = .ok (.land, 1))  (kk : AW Γ M h k (pc + 1) L (.long (x &&& y) :: st)) : AW Γ M h k pc L (.long y :: .long x :: st) :=
  r_lift (fun _ _ _ _ _ k => lv_land F.1 F.2.1 d  k) kk
theorem r_lor {x y : Int64} (F : FX Γ M cc own) (d : decode cc pc = .ok (.lor, 1))  (kk : AW Γ M h k (pc + 1) L (.long (x ||| y) :: st)) : AW Γ M h k pc L (.long y :: .long x :: st) :=
  r_lift (fun _ _ _ _ _ k => lv_lor F.1 F.2.1 d  k) kk
theorem r_lxor {x y : Int64} (F : FX Γ M cc own) (d : decode cc pc = .ok (.lxor, 1))  (kk : AW Γ M h k (pc + 1) L (.long (x ^^^ y) :: st)) : AW Γ M h k pc L (.long y :: .long x :: st) :=
  r_lift (fun _ _ _ _ _ k => lv_lxor F.1 F.2.1 d  k) kk
theorem r_ldiv {x y : Int64} (F : FX Γ M cc own) (d : decode cc pc = .ok (.ldiv, 1)) (hne : ¬ y = 0) (kk : AW Γ M h k (pc + 1) L (.long (x / y) :: st)) : AW Γ M h k pc L (.long y :: .long x :: st) :=
  r_lift (fun _ _ _ _ _ k => lv_ldiv F.1 F.2.1 d hne k) kk
theorem r_lrem {x y : Int64} (F : FX Γ M cc own) (d : decode cc pc = .ok (.lrem, 1)) (hne : ¬ y = 0) (kk : AW Γ M h k (pc + 1) L (.long (x - x / y * y) :: st)) : AW Γ M h k pc L (.long y :: .long x :: st) :=
  r_lift (fun _ _ _ _ _ k => lv_lrem F.1 F.2.1 d hne k) kk
theorem r_lneg {x : Int64} (F : FX Γ M cc own) (d : decode cc pc = .ok (.lneg, 1))  (kk : AW Γ M h k (pc + 1) L (.long (-x) :: st)) : AW Γ M h k pc L (.long x :: st) :=
  r_lift (fun _ _ _ _ _ k => lv_lneg F.1 F.2.1 d  k) kk
theorem r_i2l {x : Int32} (F : FX Γ M cc own) (d : decode cc pc = .ok (.i2l, 1))  (kk : AW Γ M h k (pc + 1) L (.long x.toInt64 :: st)) : AW Γ M h k pc L (.int x :: st) :=
  r_lift (fun _ _ _ _ _ k => lv_i2l F.1 F.2.1 d rfl k) kk
theorem r_l2i {x : Int64} (F : FX Γ M cc own) (d : decode cc pc = .ok (.l2i, 1))  (kk : AW Γ M h k (pc + 1) L (.int x.toInt32 :: st)) : AW Γ M h k pc L (.long x :: st) :=
  r_lift (fun _ _ _ _ _ k => lv_l2i F.1 F.2.1 d rfl k) kk
theorem r_i2b {x : Int32} (F : FX Γ M cc own) (d : decode cc pc = .ok (.i2b, 1))  (kk : AW Γ M h k (pc + 1) L (.int x.toInt8.toInt32 :: st)) : AW Γ M h k pc L (.int x :: st) :=
  r_lift (fun _ _ _ _ _ k => lv_i2b F.1 F.2.1 d rfl k) kk
theorem r_i2c {x : Int32} (F : FX Γ M cc own) (d : decode cc pc = .ok (.i2c, 1))  (kk : AW Γ M h k (pc + 1) L (.int (x.toUInt32 % 65536).toInt32 :: st)) : AW Γ M h k pc L (.int x :: st) :=
  r_lift (fun _ _ _ _ _ k => lv_i2c F.1 F.2.1 d rfl k) kk
theorem r_iushr {x y : Int32} (F : FX Γ M cc own) (d : decode cc pc = .ok (.iushr, 1))  (kk : AW Γ M h k (pc + 1) L (.int (x.toUInt32 >>> (y.toUInt32 &&& Int32.toUInt32 31)).toInt32 :: st)) : AW Γ M h k pc L (.int y :: .int x :: st) :=
  r_lift (fun _ _ _ _ _ k => lv_iushr F.1 F.2.1 d rfl k) kk
theorem r_lushr {x : Int64} {y : Int32} (F : FX Γ M cc own) (d : decode cc pc = .ok (.lushr, 1))  (kk : AW Γ M h k (pc + 1) L (.long (x.toUInt64 >>> (y.toInt64.toUInt64 &&& Int64.toUInt64 63)).toInt64 :: st)) : AW Γ M h k pc L (.int y :: .long x :: st) :=
  r_lift (fun _ _ _ _ _ k => lv_lushr F.1 F.2.1 d rfl k) kk
theorem r_lshl {x : Int64} {y : Int32} (F : FX Γ M cc own) (d : decode cc pc = .ok (.lshl, 1))  (kk : AW Γ M h k (pc + 1) L (.long (x <<< (y.toInt64 &&& 63)) :: st)) : AW Γ M h k pc L (.int y :: .long x :: st) :=
  r_lift (fun _ _ _ _ _ k => lv_lshl F.1 F.2.1 d rfl k) kk
theorem r_lshr {x : Int64} {y : Int32} (F : FX Γ M cc own) (d : decode cc pc = .ok (.lshr, 1))  (kk : AW Γ M h k (pc + 1) L (.long (x >>> (y.toInt64 &&& 63)) :: st)) : AW Γ M h k pc L (.int y :: .long x :: st) :=
  r_lift (fun _ _ _ _ _ k => lv_lshr F.1 F.2.1 d rfl k) kk
theorem r_lcmp {x y : Int64} (F : FX Γ M cc own) (d : decode cc pc = .ok (.lcmp, 1))  (kk : AW Γ M h k (pc + 1) L (.int (lg_cmp x y) :: st)) : AW Γ M h k pc L (.long y :: .long x :: st) :=
  r_lift (fun _ _ _ _ _ k => W.lcmp F.1 F.2.1 d  k) kk
theorem r_dup {va : Value} (F : FX Γ M cc own) (d : decode cc pc = .ok (.dup, 1)) (hva : va.category = 1) (kk : AW Γ M h k (pc + 1) L (va :: va :: st)) : AW Γ M h k pc L (va :: st) :=
  r_lift (fun _ _ _ _ _ k => lv_dup F.1 F.2.1 d hva k) kk
theorem r_pop {va : Value} (F : FX Γ M cc own) (d : decode cc pc = .ok (.pop, 1)) (hva : va.category = 1) (kk : AW Γ M h k (pc + 1) L (st)) : AW Γ M h k pc L (va :: st) :=
  r_lift (fun _ _ _ _ _ k => lv_pop F.1 F.2.1 d hva k) kk
theorem r_dup_x1 {va vb : Value} (F : FX Γ M cc own) (d : decode cc pc = .ok (.dup_x1, 1)) (hva : va.category = 1) (hvb : vb.category = 1) (kk : AW Γ M h k (pc + 1) L (va :: vb :: va :: st)) : AW Γ M h k pc L (va :: vb :: st) :=
  r_lift (fun _ _ _ _ _ k => lv_dup_x1 F.1 F.2.1 d hva hvb k) kk
theorem r_dup_x2 {va vb vd : Value} (F : FX Γ M cc own) (d : decode cc pc = .ok (.dup_x2, 1)) (hva : va.category = 1) (hvb : vb.category = 1) (hvd : vd.category = 1) (kk : AW Γ M h k (pc + 1) L (va :: vb :: vd :: va :: st)) : AW Γ M h k pc L (va :: vb :: vd :: st) :=
  r_lift (fun _ _ _ _ _ k => lv_dup_x2 F.1 F.2.1 d hva hvb hvd k) kk
theorem r_dup2_11 {va vb : Value} (F : FX Γ M cc own) (d : decode cc pc = .ok (.dup2, 1)) (hva : va.category = 1) (hvb : vb.category = 1) (kk : AW Γ M h k (pc + 1) L (va :: vb :: va :: vb :: st)) : AW Γ M h k pc L (va :: vb :: st) :=
  r_lift (fun _ _ _ _ _ k => lv_dup2_11 F.1 F.2.1 d hva hvb k) kk
theorem r_iconst {n : Int} {v : Int32} (F : FX Γ M cc own) (d : decode cc pc = .ok (.iconst n, 1)) (hv : Int32.ofInt n = v) (kk : AW Γ M h k (pc + 1) L (.int v :: st)) : AW Γ M h k pc L st :=
  r_lift (fun _ _ _ _ _ k => lv_iconst F.1 F.2.1 d hv k) kk
theorem r_bipush {n : Int} {v : Int32} (F : FX Γ M cc own) (d : decode cc pc = .ok (.bipush n, 2)) (hv : (Int8.ofInt n).toInt32 = v) (kk : AW Γ M h k (pc + 2) L (.int v :: st)) : AW Γ M h k pc L st :=
  r_lift (fun _ _ _ _ _ k => lv_bipush F.1 F.2.1 d hv k) kk
theorem r_sipush {n : Int} {v : Int32} (F : FX Γ M cc own) (d : decode cc pc = .ok (.sipush n, 3)) (hv : (Int16.ofInt n).toInt32 = v) (kk : AW Γ M h k (pc + 3) L (.int v :: st)) : AW Γ M h k pc L st :=
  r_lift (fun _ _ _ _ _ k => lv_sipush F.1 F.2.1 d hv k) kk
theorem r_lconst {n : Fin 2} {v : Int64} (F : FX Γ M cc own) (d : decode cc pc = .ok (.lconst n, 1)) (hv : Int64.ofNat (n : Nat) = v) (kk : AW Γ M h k (pc + 1) L (.long v :: st)) : AW Γ M h k pc L st :=
  r_lift (fun _ _ _ _ _ k => lv_lconst F.1 F.2.1 d hv k) kk
theorem r_null (F : FX Γ M cc own) (d : decode cc pc = .ok (.aconst_null, 1)) (kk : AW Γ M h k (pc + 1) L (.null :: st)) : AW Γ M h k pc L st :=
  r_lift (fun _ _ _ _ _ k => lv_null F.1 F.2.1 d k) kk
theorem r_ldc {index : Nat} {v : Int32} (F : FX Γ M cc own) (w : Cond.constant own index v ∈ lw_all) (d : decode cc pc = .ok (.ldc index, 2)) (kk : AW Γ M h k (pc + 2) L (.int v :: st)) : AW Γ M h k pc L st :=
  r_lift (fun _ _ _ _ _ k => lv_ldc F.1 F.2.1 F.2.2.2.1 (F.2.2.2.2.1 _ w) d k) kk
theorem r_ldcw {index : Nat} {v : Int32} (F : FX Γ M cc own) (w : Cond.constant own index v ∈ lw_all) (d : decode cc pc = .ok (.ldc_w index, 3)) (kk : AW Γ M h k (pc + 3) L (.int v :: st)) : AW Γ M h k pc L st :=
  r_lift (fun _ _ _ _ _ k => lv_ldcw F.1 F.2.1 F.2.2.2.1 (F.2.2.2.2.1 _ w) d k) kk
theorem r_ldc2 {index : Nat} {v : Int64} (F : FX Γ M cc own) (w : Cond.constantLong own index v ∈ lw_all) (d : decode cc pc = .ok (.ldc2_w index, 3)) (kk : AW Γ M h k (pc + 3) L (.long v :: st)) : AW Γ M h k pc L st :=
  r_lift (fun _ _ _ _ _ k => lv_ldc2 F.1 F.2.1 F.2.2.2.1 (F.2.2.2.2.1 _ w) d k) kk
theorem r_iload_n {kf : Fin 4} (i : Nat) {x : Int32} (F : FX Γ M cc own) (d : decode cc pc = .ok (.iload_n kf, 1)) (hi : (kf : Nat) = i) (hj : lkL L i = some (.int x)) (kk : AW Γ M h k (pc + 1) L (.int x :: st)) : AW Γ M h k pc L st :=
  fun H locs cells slots ls h1 h2 h3 h4 h5 => lv_iload_n F.1 F.2.1 d hi (lk_at h5 hj) (kk H locs cells slots ls h1 h2 h3 h4 h5)
theorem r_iload (i : Nat) {x : Int32} (F : FX Γ M cc own) (d : decode cc pc = .ok (.iload i, 2)) (hj : lkL L i = some (.int x)) (kk : AW Γ M h k (pc + 2) L (.int x :: st)) : AW Γ M h k pc L st :=
  fun H locs cells slots ls h1 h2 h3 h4 h5 => lv_iload F.1 F.2.1 d (lk_at h5 hj) (kk H locs cells slots ls h1 h2 h3 h4 h5)
theorem r_lload_n {kf : Fin 4} (i : Nat) {x : Int64} (F : FX Γ M cc own) (d : decode cc pc = .ok (.lload_n kf, 1)) (hi : (kf : Nat) = i) (hj : lkL L i = some (.long x)) (kk : AW Γ M h k (pc + 1) L (.long x :: st)) : AW Γ M h k pc L st :=
  fun H locs cells slots ls h1 h2 h3 h4 h5 => lv_lload_n F.1 F.2.1 d hi (lk_at h5 hj) (kk H locs cells slots ls h1 h2 h3 h4 h5)
theorem r_lload (i : Nat) {x : Int64} (F : FX Γ M cc own) (d : decode cc pc = .ok (.lload i, 2)) (hj : lkL L i = some (.long x)) (kk : AW Γ M h k (pc + 2) L (.long x :: st)) : AW Γ M h k pc L st :=
  fun H locs cells slots ls h1 h2 h3 h4 h5 => lv_lload F.1 F.2.1 d (lk_at h5 hj) (kk H locs cells slots ls h1 h2 h3 h4 h5)
theorem r_aload_n {kf : Fin 4} (i : Nat) {x : Nat} (F : FX Γ M cc own) (d : decode cc pc = .ok (.aload_n kf, 1)) (hi : (kf : Nat) = i) (hj : lkL L i = some (.ref x)) (kk : AW Γ M h k (pc + 1) L (.ref x :: st)) : AW Γ M h k pc L st :=
  fun H locs cells slots ls h1 h2 h3 h4 h5 => lv_aload_n F.1 F.2.1 d hi (lk_at h5 hj) (kk H locs cells slots ls h1 h2 h3 h4 h5)
theorem r_aload (i : Nat) {x : Nat} (F : FX Γ M cc own) (d : decode cc pc = .ok (.aload i, 2)) (hj : lkL L i = some (.ref x)) (kk : AW Γ M h k (pc + 2) L (.ref x :: st)) : AW Γ M h k pc L st :=
  fun H locs cells slots ls h1 h2 h3 h4 h5 => lv_aload F.1 F.2.1 d (lk_at h5 hj) (kk H locs cells slots ls h1 h2 h3 h4 h5)
theorem r_aload_nO {kf : Fin 4} (i : Nat) {x : Option Nat} (F : FX Γ M cc own) (d : decode cc pc = .ok (.aload_n kf, 1)) (hi : (kf : Nat) = i) (hj : lkL L i = some (va_rf x)) (kk : AW Γ M h k (pc + 1) L (va_rf x :: st)) : AW Γ M h k pc L st := by
  cases x with
  | none => exact fun H locs cells slots ls h1 h2 h3 h4 h5 => lv_aload_nN F.1 F.2.1 d hi (lk_at h5 hj) (kk H locs cells slots ls h1 h2 h3 h4 h5)
  | some a => exact fun H locs cells slots ls h1 h2 h3 h4 h5 => lv_aload_n F.1 F.2.1 d hi (lk_at h5 hj) (kk H locs cells slots ls h1 h2 h3 h4 h5)
theorem r_aloadO (i : Nat) {x : Option Nat} (F : FX Γ M cc own) (d : decode cc pc = .ok (.aload i, 2)) (hj : lkL L i = some (va_rf x)) (kk : AW Γ M h k (pc + 2) L (va_rf x :: st)) : AW Γ M h k pc L st := by
  cases x with
  | none => exact fun H locs cells slots ls h1 h2 h3 h4 h5 => lv_aloadN F.1 F.2.1 d (lk_at h5 hj) (kk H locs cells slots ls h1 h2 h3 h4 h5)
  | some a => exact fun H locs cells slots ls h1 h2 h3 h4 h5 => lv_aload F.1 F.2.1 d (lk_at h5 hj) (kk H locs cells slots ls h1 h2 h3 h4 h5)
theorem r_istore_n {kf : Fin 4} (i : Nat) {x : Int32} (F : FX Γ M cc own) (d : decode cc pc = .ok (.istore_n kf, 1)) (hi : (kf : Nat) = i) {NL : Nat} (hN : mN M = NL) (hn : i < NL) (kk : AW Γ M h k (pc + 1) (stL L i (.int x)) st) : AW Γ M h k pc L (.int x :: st) :=
  fun H locs cells slots ls h1 h2 h3 h4 h5 => lv_istore_n F.1 F.2.1 d hi h5 (hN ▸ hn) rfl (fun ls h5 => kk H locs cells slots ls h1 h2 h3 h4 h5)
theorem r_istore (i : Nat) {x : Int32} (F : FX Γ M cc own) (d : decode cc pc = .ok (.istore i, 2)) {NL : Nat} (hN : mN M = NL) (hn : i < NL) (kk : AW Γ M h k (pc + 2) (stL L i (.int x)) st) : AW Γ M h k pc L (.int x :: st) :=
  fun H locs cells slots ls h1 h2 h3 h4 h5 => lv_istore F.1 F.2.1 d h5 (hN ▸ hn) rfl (fun ls h5 => kk H locs cells slots ls h1 h2 h3 h4 h5)
theorem r_lstore_n {kf : Fin 4} (i : Nat) {x : Int64} (F : FX Γ M cc own) (d : decode cc pc = .ok (.lstore_n kf, 1)) (hi : (kf : Nat) = i) {NL : Nat} (hN : mN M = NL) (hn : i + 1 < NL) (kk : AW Γ M h k (pc + 1) (stL2 L i (.long x)) st) : AW Γ M h k pc L (.long x :: st) :=
  fun H locs cells slots ls h1 h2 h3 h4 h5 => lv_lstore_n F.1 F.2.1 d hi h5 (hN ▸ hn) rfl (fun ls h5 => kk H locs cells slots ls h1 h2 h3 h4 h5)
theorem r_lstore (i : Nat) {x : Int64} (F : FX Γ M cc own) (d : decode cc pc = .ok (.lstore i, 2)) {NL : Nat} (hN : mN M = NL) (hn : i + 1 < NL) (kk : AW Γ M h k (pc + 2) (stL2 L i (.long x)) st) : AW Γ M h k pc L (.long x :: st) :=
  fun H locs cells slots ls h1 h2 h3 h4 h5 => lv_lstore F.1 F.2.1 d h5 (hN ▸ hn) rfl (fun ls h5 => kk H locs cells slots ls h1 h2 h3 h4 h5)
theorem r_astore_n {kf : Fin 4} (i : Nat) {x : Nat} (F : FX Γ M cc own) (d : decode cc pc = .ok (.astore_n kf, 1)) (hi : (kf : Nat) = i) {NL : Nat} (hN : mN M = NL) (hn : i < NL) (kk : AW Γ M h k (pc + 1) (stL L i (.ref x)) st) : AW Γ M h k pc L (.ref x :: st) :=
  fun H locs cells slots ls h1 h2 h3 h4 h5 => lv_astore_n F.1 F.2.1 d hi h5 (hN ▸ hn) rfl (fun ls h5 => kk H locs cells slots ls h1 h2 h3 h4 h5)
theorem r_astore (i : Nat) {x : Nat} (F : FX Γ M cc own) (d : decode cc pc = .ok (.astore i, 2)) {NL : Nat} (hN : mN M = NL) (hn : i < NL) (kk : AW Γ M h k (pc + 2) (stL L i (.ref x)) st) : AW Γ M h k pc L (.ref x :: st) :=
  fun H locs cells slots ls h1 h2 h3 h4 h5 => lv_astore F.1 F.2.1 d h5 (hN ▸ hn) rfl (fun ls h5 => kk H locs cells slots ls h1 h2 h3 h4 h5)
theorem r_astore_nO {kf : Fin 4} (i : Nat) {x : Option Nat} (F : FX Γ M cc own) (d : decode cc pc = .ok (.astore_n kf, 1)) (hi : (kf : Nat) = i) {NL : Nat} (hN : mN M = NL) (hn : i < NL) (kk : AW Γ M h k (pc + 1) (stL L i (va_rf x)) st) : AW Γ M h k pc L (va_rf x :: st) := by
  cases x with
  | none => exact fun H locs cells slots ls h1 h2 h3 h4 h5 => lv_astore_nN F.1 F.2.1 d hi h5 (hN ▸ hn) rfl (fun ls h5 => kk H locs cells slots ls h1 h2 h3 h4 h5)
  | some a => exact fun H locs cells slots ls h1 h2 h3 h4 h5 => lv_astore_n F.1 F.2.1 d hi h5 (hN ▸ hn) rfl (fun ls h5 => kk H locs cells slots ls h1 h2 h3 h4 h5)
theorem r_astoreO (i : Nat) {x : Option Nat} (F : FX Γ M cc own) (d : decode cc pc = .ok (.astore i, 2)) {NL : Nat} (hN : mN M = NL) (hn : i < NL) (kk : AW Γ M h k (pc + 2) (stL L i (va_rf x)) st) : AW Γ M h k pc L (va_rf x :: st) := by
  cases x with
  | none => exact fun H locs cells slots ls h1 h2 h3 h4 h5 => lv_astoreN F.1 F.2.1 d h5 (hN ▸ hn) rfl (fun ls h5 => kk H locs cells slots ls h1 h2 h3 h4 h5)
  | some a => exact fun H locs cells slots ls h1 h2 h3 h4 h5 => lv_astore F.1 F.2.1 d h5 (hN ▸ hn) rfl (fun ls h5 => kk H locs cells slots ls h1 h2 h3 h4 h5)
theorem r_iinc (i : Nat) {n : Int} {x c : Int32} (F : FX Γ M cc own) (d : decode cc pc = .ok (.iinc i n, 3)) (hj : lkL L i = some (.int x)) {NL : Nat} (hN : mN M = NL) (hn : i < NL) (hc : Int32.ofInt n = c) (kk : AW Γ M h k (pc + 3) (stL L i (.int (x + c))) st) : AW Γ M h k pc L st := by
  subst hc
  intro H locs cells slots ls h1 h2 h3 h4 h5
  obtain ⟨j, hjj⟩ := List.getElem?_of_mem (lkL_mem hj)
  exact lv_iinc F.1 F.2.1 d h5 hjj rfl (hN ▸ hn) rfl (fun ls h5 => kk H locs cells slots ls h1 h2 h3 h4 h5)
theorem r_if_eq {x : Int32} {off : Int} (tgt : Nat) (F : FX Γ M cc own) (d : decode cc pc = .ok (.ifCond .eq off, 3)) (ht : (pc : Int) + off = (tgt : Int)) (kt : x = 0 → AW Γ M h k tgt L st) (kf : ¬ (x = 0) → AW Γ M h k (pc + 3) L st) : AW Γ M h k pc L (.int x :: st) :=
  fun H locs cells slots ls h1 h2 h3 h4 h5 => lv_if_eq F.1 F.2.1 d ht (fun c => kt c H locs cells slots ls h1 h2 h3 h4 h5) (fun c => kf c H locs cells slots ls h1 h2 h3 h4 h5)
theorem r_icmp_eq {x y : Int32} {off : Int} (tgt : Nat) (F : FX Γ M cc own) (d : decode cc pc = .ok (.if_icmp .eq off, 3)) (ht : (pc : Int) + off = (tgt : Int)) (kt : x = y → AW Γ M h k tgt L st) (kf : ¬ (x = y) → AW Γ M h k (pc + 3) L st) : AW Γ M h k pc L (.int y :: .int x :: st) :=
  fun H locs cells slots ls h1 h2 h3 h4 h5 => lv_icmp_eq F.1 F.2.1 d ht (fun c => kt c H locs cells slots ls h1 h2 h3 h4 h5) (fun c => kf c H locs cells slots ls h1 h2 h3 h4 h5)
theorem r_if_ne {x : Int32} {off : Int} (tgt : Nat) (F : FX Γ M cc own) (d : decode cc pc = .ok (.ifCond .ne off, 3)) (ht : (pc : Int) + off = (tgt : Int)) (kt : ¬ x = 0 → AW Γ M h k tgt L st) (kf : x = 0 → AW Γ M h k (pc + 3) L st) : AW Γ M h k pc L (.int x :: st) :=
  fun H locs cells slots ls h1 h2 h3 h4 h5 => lv_if_ne F.1 F.2.1 d ht (fun c => kt c H locs cells slots ls h1 h2 h3 h4 h5) (fun c => kf c H locs cells slots ls h1 h2 h3 h4 h5)
theorem r_icmp_ne {x y : Int32} {off : Int} (tgt : Nat) (F : FX Γ M cc own) (d : decode cc pc = .ok (.if_icmp .ne off, 3)) (ht : (pc : Int) + off = (tgt : Int)) (kt : ¬ x = y → AW Γ M h k tgt L st) (kf : x = y → AW Γ M h k (pc + 3) L st) : AW Γ M h k pc L (.int y :: .int x :: st) :=
  fun H locs cells slots ls h1 h2 h3 h4 h5 => lv_icmp_ne F.1 F.2.1 d ht (fun c => kt c H locs cells slots ls h1 h2 h3 h4 h5) (fun c => kf c H locs cells slots ls h1 h2 h3 h4 h5)
theorem r_if_lt {x : Int32} {off : Int} (tgt : Nat) (F : FX Γ M cc own) (d : decode cc pc = .ok (.ifCond .lt off, 3)) (ht : (pc : Int) + off = (tgt : Int)) (kt : x < 0 → AW Γ M h k tgt L st) (kf : ¬ (x < 0) → AW Γ M h k (pc + 3) L st) : AW Γ M h k pc L (.int x :: st) :=
  fun H locs cells slots ls h1 h2 h3 h4 h5 => lv_if_lt F.1 F.2.1 d ht (fun c => kt c H locs cells slots ls h1 h2 h3 h4 h5) (fun c => kf c H locs cells slots ls h1 h2 h3 h4 h5)
theorem r_icmp_lt {x y : Int32} {off : Int} (tgt : Nat) (F : FX Γ M cc own) (d : decode cc pc = .ok (.if_icmp .lt off, 3)) (ht : (pc : Int) + off = (tgt : Int)) (kt : x < y → AW Γ M h k tgt L st) (kf : ¬ (x < y) → AW Γ M h k (pc + 3) L st) : AW Γ M h k pc L (.int y :: .int x :: st) :=
  fun H locs cells slots ls h1 h2 h3 h4 h5 => lv_icmp_lt F.1 F.2.1 d ht (fun c => kt c H locs cells slots ls h1 h2 h3 h4 h5) (fun c => kf c H locs cells slots ls h1 h2 h3 h4 h5)
theorem r_if_ge {x : Int32} {off : Int} (tgt : Nat) (F : FX Γ M cc own) (d : decode cc pc = .ok (.ifCond .ge off, 3)) (ht : (pc : Int) + off = (tgt : Int)) (kt : 0 ≤ x → AW Γ M h k tgt L st) (kf : ¬ (0 ≤ x) → AW Γ M h k (pc + 3) L st) : AW Γ M h k pc L (.int x :: st) :=
  fun H locs cells slots ls h1 h2 h3 h4 h5 => lv_if_ge F.1 F.2.1 d ht (fun c => kt c H locs cells slots ls h1 h2 h3 h4 h5) (fun c => kf c H locs cells slots ls h1 h2 h3 h4 h5)
theorem r_icmp_ge {x y : Int32} {off : Int} (tgt : Nat) (F : FX Γ M cc own) (d : decode cc pc = .ok (.if_icmp .ge off, 3)) (ht : (pc : Int) + off = (tgt : Int)) (kt : y ≤ x → AW Γ M h k tgt L st) (kf : ¬ (y ≤ x) → AW Γ M h k (pc + 3) L st) : AW Γ M h k pc L (.int y :: .int x :: st) :=
  fun H locs cells slots ls h1 h2 h3 h4 h5 => lv_icmp_ge F.1 F.2.1 d ht (fun c => kt c H locs cells slots ls h1 h2 h3 h4 h5) (fun c => kf c H locs cells slots ls h1 h2 h3 h4 h5)
theorem r_if_gt {x : Int32} {off : Int} (tgt : Nat) (F : FX Γ M cc own) (d : decode cc pc = .ok (.ifCond .gt off, 3)) (ht : (pc : Int) + off = (tgt : Int)) (kt : 0 < x → AW Γ M h k tgt L st) (kf : ¬ (0 < x) → AW Γ M h k (pc + 3) L st) : AW Γ M h k pc L (.int x :: st) :=
  fun H locs cells slots ls h1 h2 h3 h4 h5 => lv_if_gt F.1 F.2.1 d ht (fun c => kt c H locs cells slots ls h1 h2 h3 h4 h5) (fun c => kf c H locs cells slots ls h1 h2 h3 h4 h5)
theorem r_icmp_gt {x y : Int32} {off : Int} (tgt : Nat) (F : FX Γ M cc own) (d : decode cc pc = .ok (.if_icmp .gt off, 3)) (ht : (pc : Int) + off = (tgt : Int)) (kt : y < x → AW Γ M h k tgt L st) (kf : ¬ (y < x) → AW Γ M h k (pc + 3) L st) : AW Γ M h k pc L (.int y :: .int x :: st) :=
  fun H locs cells slots ls h1 h2 h3 h4 h5 => lv_icmp_gt F.1 F.2.1 d ht (fun c => kt c H locs cells slots ls h1 h2 h3 h4 h5) (fun c => kf c H locs cells slots ls h1 h2 h3 h4 h5)
theorem r_if_le {x : Int32} {off : Int} (tgt : Nat) (F : FX Γ M cc own) (d : decode cc pc = .ok (.ifCond .le off, 3)) (ht : (pc : Int) + off = (tgt : Int)) (kt : x ≤ 0 → AW Γ M h k tgt L st) (kf : ¬ (x ≤ 0) → AW Γ M h k (pc + 3) L st) : AW Γ M h k pc L (.int x :: st) :=
  fun H locs cells slots ls h1 h2 h3 h4 h5 => lv_if_le F.1 F.2.1 d ht (fun c => kt c H locs cells slots ls h1 h2 h3 h4 h5) (fun c => kf c H locs cells slots ls h1 h2 h3 h4 h5)
theorem r_icmp_le {x y : Int32} {off : Int} (tgt : Nat) (F : FX Γ M cc own) (d : decode cc pc = .ok (.if_icmp .le off, 3)) (ht : (pc : Int) + off = (tgt : Int)) (kt : x ≤ y → AW Γ M h k tgt L st) (kf : ¬ (x ≤ y) → AW Γ M h k (pc + 3) L st) : AW Γ M h k pc L (.int y :: .int x :: st) :=
  fun H locs cells slots ls h1 h2 h3 h4 h5 => lv_icmp_le F.1 F.2.1 d ht (fun c => kt c H locs cells slots ls h1 h2 h3 h4 h5) (fun c => kf c H locs cells slots ls h1 h2 h3 h4 h5)
theorem r_goto {off : Int} (tgt : Nat) (F : FX Γ M cc own) (d : decode cc pc = .ok (.goto off, 3)) (ht : (pc : Int) + off = (tgt : Int)) (kk : AW Γ M h k tgt L st) : AW Γ M h k pc L st :=
  r_lift (fun _ _ _ _ _ k => lv_goto F.1 F.2.1 d ht k) kk
theorem r_ifnull {x : Nat} {off : Int} (F : FX Γ M cc own) (d : decode cc pc = .ok (.ifnull off, 3)) (kk : AW Γ M h k (pc + 3) L st) : AW Γ M h k pc L (.ref x :: st) :=
  r_lift (fun _ _ _ _ _ k => lv_ifnull F.1 F.2.1 d k) kk
theorem r_ifnullN {off : Int} (tgt : Nat) (F : FX Γ M cc own) (d : decode cc pc = .ok (.ifnull off, 3)) (ht : (pc : Int) + off = (tgt : Int)) (kk : AW Γ M h k tgt L st) : AW Γ M h k pc L (.null :: st) :=
  r_lift (fun _ _ _ _ _ k => lv_ifnullN F.1 F.2.1 d ht k) kk
theorem r_ifnonnull {x : Nat} {off : Int} (tgt : Nat) (F : FX Γ M cc own) (d : decode cc pc = .ok (.ifnonnull off, 3)) (ht : (pc : Int) + off = (tgt : Int)) (kk : AW Γ M h k tgt L st) : AW Γ M h k pc L (.ref x :: st) :=
  r_lift (fun _ _ _ _ _ k => lv_ifnonnull F.1 F.2.1 d ht k) kk
theorem r_ifnonnullN {off : Int} (F : FX Γ M cc own) (d : decode cc pc = .ok (.ifnonnull off, 3)) (kk : AW Γ M h k (pc + 3) L st) : AW Γ M h k pc L (.null :: st) :=
  r_lift (fun _ _ _ _ _ k => lv_ifnonnullN F.1 F.2.1 d k) kk
theorem r_ifnullO {x : Option Nat} {off : Int} (tgt : Nat) (F : FX Γ M cc own) (d : decode cc pc = .ok (.ifnull off, 3)) (ht : (pc : Int) + off = (tgt : Int)) (kt : x = none → AW Γ M h k tgt L st) (kf : ∀ a : Nat, x = some a → AW Γ M h k (pc + 3) L st) : AW Γ M h k pc L (va_rf x :: st) := by
  cases x with
  | none => exact r_ifnullN tgt F d ht (kt rfl)
  | some a => exact r_ifnull F d (kf a rfl)
theorem r_ifnonnullO {x : Option Nat} {off : Int} (tgt : Nat) (F : FX Γ M cc own) (d : decode cc pc = .ok (.ifnonnull off, 3)) (ht : (pc : Int) + off = (tgt : Int)) (kt : ∀ a : Nat, x = some a → AW Γ M h k tgt L st) (kf : x = none → AW Γ M h k (pc + 3) L st) : AW Γ M h k pc L (va_rf x :: st) := by
  cases x with
  | none => exact r_ifnonnullN F d (kf rfl)
  | some a => exact r_ifnonnull tgt F d ht (kt a rfl)
theorem r_acmp_eq {x y : Option Nat} {off : Int} (tgt : Nat) (F : FX Γ M cc own) (d : decode cc pc = .ok (.if_acmp .eq off, 3)) (ht : (pc : Int) + off = (tgt : Int)) (kt : x = y → AW Γ M h k tgt L st) (kf : ¬ x = y → AW Γ M h k (pc + 3) L st) : AW Γ M h k pc L (va_rf y :: va_rf x :: st) :=
  fun H locs cells slots ls h1 h2 h3 h4 h5 => lv_acmp_eq F.1 F.2.1 d ht (fun c => kt c H locs cells slots ls h1 h2 h3 h4 h5) (fun c => kf c H locs cells slots ls h1 h2 h3 h4 h5)
theorem r_acmp_ne {x y : Option Nat} {off : Int} (tgt : Nat) (F : FX Γ M cc own) (d : decode cc pc = .ok (.if_acmp .ne off, 3)) (ht : (pc : Int) + off = (tgt : Int)) (kt : ¬ x = y → AW Γ M h k tgt L st) (kf : x = y → AW Γ M h k (pc + 3) L st) : AW Γ M h k pc L (va_rf y :: va_rf x :: st) :=
  fun H locs cells slots ls h1 h2 h3 h4 h5 => lv_acmp_ne F.1 F.2.1 d ht (fun c => kt c H locs cells slots ls h1 h2 h3 h4 h5) (fun c => kf c H locs cells slots ls h1 h2 h3 h4 h5)
theorem r_tableOut {dflt lo hi : Int} {offs : Array Int} {len : Nat} {x : Int32} (tgt : Nat) (F : FX Γ M cc own) (d : decode cc pc = .ok (.tableswitch dflt lo hi offs, len)) (hx : x.toInt < lo ∨ hi < x.toInt) (ht : (pc : Int) + dflt = (tgt : Int)) (kk : AW Γ M h k tgt L st) : AW Γ M h k pc L (.int x :: st) :=
  r_lift (fun _ _ _ _ _ k => lv_tableOut F.1 F.2.1 d hx ht k) kk
theorem r_tableIn {dflt lo hi : Int} {offs : Array Int} {len : Nat} {x : Int32} {off : Int} (tgt : Nat) (F : FX Γ M cc own) (d : decode cc pc = .ok (.tableswitch dflt lo hi offs, len)) (h1 : ¬ x.toInt < lo) (h2 : ¬ hi < x.toInt) (ho : offs[(x.toInt - lo).toNat]? = some off) (ht : (pc : Int) + off = (tgt : Int)) (kk : AW Γ M h k tgt L st) : AW Γ M h k pc L (.int x :: st) :=
  r_lift (fun _ _ _ _ _ k => lv_tableIn F.1 F.2.1 d h1 h2 ho ht k) kk
end ROWS
