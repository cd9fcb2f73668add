set_option maxRecDepth 100000
/-! CORE 4: casts, statics, String constants, arrays of references, the other calls -/
/-- typed contracts -/
abbrev Ci (Γ : Cx) (d u : Nat) (mi : MI) (av : List Value) (h : Hp) (Q : Int32 → Hp → Prop) : Prop := Con Γ d u mi av h (fun v h' => ∃ x, v = some (.int x) ∧ Q x h')
abbrev Cj (Γ : Cx) (d u : Nat) (mi : MI) (av : List Value) (h : Hp) (Q : Int64 → Hp → Prop) : Prop := Con Γ d u mi av h (fun v h' => ∃ x, v = some (.long x) ∧ Q x h')
abbrev Cr (Γ : Cx) (d u : Nat) (mi : MI) (av : List Value) (h : Hp) (Q : Nat → Hp → Prop) : Prop := Con Γ d u mi av h (fun v h' => ∃ x, v = some (.ref x) ∧ Q x h')
abbrev Co (Γ : Cx) (d u : Nat) (mi : MI) (av : List Value) (h : Hp) (Q : Option Nat → Hp → Prop) : Prop := Con Γ d u mi av h (fun v h' => ∃ x, v = some (va_rf x) ∧ Q x h')
abbrev Cv (Γ : Cx) (d u : Nat) (mi : MI) (av : List Value) (h : Hp) (Q : Hp → Prop) : Prop := Con Γ d u mi av h (fun v h' => v = none ∧ Q h')
/-- calls by contract: with credit, without -/
def kCi (Γ : Cx) (d : Nat) (mi : MI) (av : List Value) (h : Hp) (k : Nat) (K : Int32 → Hp → Nat → Prop) : Prop := ∃ u k' Q, k' + u ≤ k ∧ Ci Γ d u mi av h Q ∧ ∀ x h', Q x h' → K x h' k'
def kCj (Γ : Cx) (d : Nat) (mi : MI) (av : List Value) (h : Hp) (k : Nat) (K : Int64 → Hp → Nat → Prop) : Prop := ∃ u k' Q, k' + u ≤ k ∧ Cj Γ d u mi av h Q ∧ ∀ x h', Q x h' → K x h' k'
def kCr (Γ : Cx) (d : Nat) (mi : MI) (av : List Value) (h : Hp) (k : Nat) (K : Nat → Hp → Nat → Prop) : Prop := ∃ u k' Q, k' + u ≤ k ∧ Cr Γ d u mi av h Q ∧ ∀ x h', Q x h' → K x h' k'
def kCo (Γ : Cx) (d : Nat) (mi : MI) (av : List Value) (h : Hp) (k : Nat) (K : Option Nat → Hp → Nat → Prop) : Prop := ∃ u k' Q, k' + u ≤ k ∧ Co Γ d u mi av h Q ∧ ∀ x h', Q x h' → K x h' k'
def kCv (Γ : Cx) (d : Nat) (mi : MI) (av : List Value) (h : Hp) (k : Nat) (K : Hp → Nat → Prop) : Prop := ∃ u k' Q, k' + u ≤ k ∧ Cv Γ d u mi av h Q ∧ ∀ h', Q h' → K h' k'
def zCi (Γ : Cx) (d : Nat) (mi : MI) (av : List Value) (h : Hp) (K : Int32 → Hp → Prop) : Prop := ∃ Q, Ci Γ d 0 mi av h Q ∧ ∀ x h', Q x h' → K x h'
def zCj (Γ : Cx) (d : Nat) (mi : MI) (av : List Value) (h : Hp) (K : Int64 → Hp → Prop) : Prop := ∃ Q, Cj Γ d 0 mi av h Q ∧ ∀ x h', Q x h' → K x h'
def zCr (Γ : Cx) (d : Nat) (mi : MI) (av : List Value) (h : Hp) (K : Nat → Hp → Prop) : Prop := ∃ Q, Cr Γ d 0 mi av h Q ∧ ∀ x h', Q x h' → K x h'
def zCo (Γ : Cx) (d : Nat) (mi : MI) (av : List Value) (h : Hp) (K : Option Nat → Hp → Prop) : Prop := ∃ Q, Co Γ d 0 mi av h Q ∧ ∀ x h', Q x h' → K x h'
def zCv (Γ : Cx) (d : Nat) (mi : MI) (av : List Value) (h : Hp) (K : Hp → Prop) : Prop := ∃ Q, Cv Γ d 0 mi av h Q ∧ ∀ h', Q h' → K h'
/-- a static field's value; a String constant's object -/
def gSt (Γ : Cx) (C n d : String) (K : Value → Prop) : Prop := ∃ v, (C, n, d, v) ∈ cxS Γ ∧ K v
def gLs (Γ : Cx) (own : String) (idx : Nat) (K : Nat → Prop) : Prop := ∃ tx a, (own, idx, tx, a) ∈ cxL Γ ∧ K a
/-- a reference that may stand in an Object[]: null, or an object of a class of Cl -/
def isE (Γ : Cx) (h : Hp) (x : Option Nat) : Prop := ∀ a, x = some a → ∃ ci, isO Γ h a ci ∧ ci < Cl.length
section H4
variable {Γ : Cx} {M : Mx} {h : Hp} {k pc : Nat} {L : List (Nat × Value)} {st : List Value} {cc : ByteArray} {own : String}
theorem s_W {pc' : Nat} {st' : List Value} (f : ∀ (H : Heap) (locs : List Loc) (cells slots : Nat) (ls : Array Slot), Rep Γ h H → va_S (fun q => cxB Γ ≤ q) (mS M).heap H locs → WM Γ M H locs cells slots (F0 (mM M) pc' ls st') → WM Γ M H locs cells slots (F0 (mM M) pc ls st)) (kk : AW Γ M h k pc' L st') : AW Γ M h k pc L st :=
  fun H locs cells slots ls h1 h2 h3 h4 h5 => f H locs cells slots ls h1 h2 (kk H locs cells slots ls h1 h2 h3 h4 h5)
theorem r_gs {C n ds ref : String} {index : Nat} (F : FX Γ M cc own) (w : Cond.fieldLink own index ref n ds ∈ lw_all) (hs : C = ref) (d : decode cc pc = .ok (.getstatic index, 3)) {K : Value → Prop} (hw : gSt Γ C n ds K) (kk : ∀ v, K v → AW Γ M h k (pc + 3) L (v :: st)) : AW Γ M h k pc L st := by
  obtain ⟨v, hv, hK⟩ := hw
  subst hs
  exact s_W (fun H locs cells slots ls h1 h2 kw => va_gets F.1 F.2.1 (F.2.2.2.2.2.1.2.2.2.1 _ hv) h2 F.2.2.2.1 (F.2.2.2.2.1 _ w) (fun x hx => hx) d kw) (kk v hK)
theorem r_ldcS {index : Nat} (F : FX Γ M cc own) (d : decode cc pc = .ok (.ldc index, 2)) {K : Nat → Prop} (hw : gLs Γ own index K) (kk : ∀ a, K a → AW Γ M h k (pc + 2) L (.ref a :: st)) : AW Γ M h k pc L st := by
  obtain ⟨tx, a, hv, hK⟩ := hw
  exact s_W (fun H locs cells slots ls h1 h2 kw => va_ldcS F.1 F.2.1 F.2.2.2.1 (F.2.2.2.2.2.1.2.2.2.2.2.2.2.2.1 _ hv) d kw) (kk a hK)
/-- a cast to the object's own class; to a class that the tables say it can be cast to; of null; of an array -/
theorem r_cast {C : String} {T : u_T} {N ci index a : Nat} (F : FX Γ M cc own) (hc : Cl[ci]? = some (C, T, N)) (w : Cond.classLink own index C ∈ lw_all) (d : decode cc pc = .ok (.checkcast index, 3)) (ho : isO Γ h a ci) (kk : AW Γ M h k (pc + 3) L (.ref a :: st)) : AW Γ M h k pc L (.ref a :: st) := by
  obtain ⟨fs, ha⟩ := ho
  exact s_W (fun H locs cells slots ls h1 h2 kw => va_castE F.1 F.2.1 F.2.2.2.1 (F.2.2.2.2.1 _ w) (recv_at F h1 h2 hc ha) d kw) kk
theorem r_castY {C nm : String} {T : u_T} {N ci index a : Nat} (F : FX Γ M cc own) (hc : Cl[ci]? = some (C, T, N)) (w : Cond.classLink own index nm ∈ lw_all) (w2 : Cond.castable C nm ∈ lw_tbl) (d : decode cc pc = .ok (.checkcast index, 3)) (ho : isO Γ h a ci) (kk : AW Γ M h k (pc + 3) L (.ref a :: st)) : AW Γ M h k pc L (.ref a :: st) := by
  obtain ⟨fs, ha⟩ := ho
  exact s_W (fun H locs cells slots ls h1 h2 kw => va_castY F.1 F.2.1 F.2.2.2.1 (F.2.2.2.2.1 _ w) (show va_Nw _ (mS M) from F.2.2.2.2.2.1.2.2.2.2.1 _ w2 rfl) (recv_at F h1 h2 hc ha) d kw) kk
theorem r_castN {index : Nat} (F : FX Γ M cc own) (d : decode cc pc = .ok (.checkcast index, 3)) (kk : AW Γ M h k (pc + 3) L (.null :: st)) : AW Γ M h k pc L (.null :: st) :=
  r_lift (fun _ _ _ _ _ k => lv_castN F.1 F.2.1 d k) kk
theorem r_castO {C : String} {T : u_T} {N ci index : Nat} {x : Option Nat} (F : FX Γ M cc own) (hc : Cl[ci]? = some (C, T, N)) (w : Cond.classLink own index C ∈ lw_all) (d : decode cc pc = .ok (.checkcast index, 3)) (ho : ∀ a, x = some a → isO Γ h a ci) (kk : AW Γ M h k (pc + 3) L (va_rf x :: st)) : AW Γ M h k pc L (va_rf x :: st) := by
  cases x with
  | none => exact r_castN F d kk
  | some a => exact r_cast F hc w d (ho a rfl) kk
/-- an Object[] is made -/
theorem r_anew {index : Nat} (F : FX Γ M cc own) (w : Cond.classLink own index "java/lang/Object" ∈ lw_all) (d : decode cc pc = .ok (.anewarray index, 3)) {i : Int32} {K : Nat → Hp → Nat → Prop} (hw : nA Γ h k 4 zO i K) (kk : ∀ a h' k', K a h' k' → AW Γ M h' k' (pc + 3) L (.ref a :: st)) : AW Γ M h k pc L (.int i :: st) := by
  intro H locs cells slots ls h1 h2 h3 h4 h5
  obtain ⟨n, rfl, hlt, hk, hw⟩ := hw
  have hBH : cxB Γ ≤ H.size := Nat.le_trans F.2.2.2.2.2.1.2.1 h2.1
  have hcl : (nI n).toNatClampNeg = n := nI_clamp (by omega)
  refine W.anew F.1 F.2.1 F.2.2.2.1 (F.2.2.2.2.1 _ w) (va_AO.use F.2.2.2.2.2.1.2.2.2.2.2.2.1) rfl d rfl (nI_pos (by omega)) (by rw [hcl]; omega) (by show cells + 1 ≤ mU M; omega) (by rw [hcl]; show slots + n ≤ mU M; omega) fun cA kA comp f1 f2 f3 f4 => ?_
  rw [hcl]
  have hcA : cA = cxA Γ 4 := by
    obtain ⟨-, kA', comp', g1, g2, g3, g4⟩ := F.2.2.2.2.2.1.1.2 4 _ rfl
    exact Option.some.inj (f1.symm.trans g4)
  subst hcA
  generalize hH1 : H.push ({ cls := cxA Γ 4, slots := Array.replicate n .null, vm := .none } : Cell) = H1
  have z1 : H1.size = H.size + 1 := by rw [← hH1, Array.size_push]
  have e1 : H1[H.size]? = some (arrV (cxA Γ 4) n (fun _ => .null)) := by rw [← hH1, Array.getElem?_push_size, ← arrV_new]
  have o1 : ∀ q : Nat, q < H.size → H1[q]? = H[q]? := fun q hq => by rw [← hH1, Array.getElem?_push, if_neg (Nat.ne_of_lt hq)]
  exact aw_k (kk H.size _ _ (hw H.size h1.fresh hBH)) (h1.up hBH (by show H1[H.size]? = some (vp_cell _ _); rw [vp_cell_q]; exact e1) (fun b _ hb => o1 b hb)) ⟨Nat.le_trans h2.1 (by omega), fun x g1 g2 => (o1 x (Nat.lt_of_lt_of_le g1 h2.1)).trans (h2.2.1 x g1 g2), h2.2.2⟩ (by omega) (by omega) h5
theorem cl_cast {ci : Nat} {r : vw_C} (h : Cl[ci]? = some r) : Cond.castable r.1 "java/lang/Object" ∈ lw_tbl := cl_obj r (List.mem_of_getElem? h)
/-- a reference into an Object[] -/
theorem r_aast (F : FX Γ M cc own) (d : decode cc pc = .ok (.aastore, 1)) {a v : Nat} {i : Int32} {K : Hp → Prop} (he : isE Γ h (some v)) (hw : sO Γ h a i (some v) K) (kk : ∀ h', K h' → AW Γ M h' k (pc + 1) L st) : AW Γ M h k pc L (.ref v :: .int i :: .ref a :: st) := by
  obtain ⟨n, f, ha, hin, hK⟩ := sO_inv hw
  obtain ⟨ci, ⟨fs, hfs⟩, hci⟩ := he v rfl
  intro H locs cells slots ls h1 h2 h3 h4 h5
  obtain ⟨hB, hat⟩ := h1 a _ ha
  have hlt : i.toNatClampNeg < n := Nat.not_le.mp fun q => hin (Or.inr q)
  have h0 : ¬ i < 0 := fun q => hin (Or.inl q)
  obtain ⟨r, hr⟩ : ∃ r, Cl[ci]? = some r := ⟨_, List.getElem?_eq_getElem hci⟩
  obtain ⟨C, T, N⟩ := r
  obtain ⟨cellV, g1, g2, g3, g4, -⟩ := obj_rd F.2.2.2.2.2.1 h1 h2 hr hfs
  have hcls := (F.2.2.2.2.2.1.1.1 ci _ hr).2
  obtain ⟨kA, comp, k1, k2, k3, -⟩ := (F.2.2.2.2.2.1.1.2 4 _ rfl).2
  obtain ⟨kE, hkE, -⟩ := Vm.findClass_spec k3
  obtain ⟨c0, t1, f1, f2, f3⟩ := Cond.castable_spec (va_Nw.use (A := mA M) rfl (show va_Nw _ (mS M) from F.2.2.2.2.2.1.2.2.2.2.1 _ (cl_cast hr) rfl))
  cases g4.symm.trans f1
  cases k3.symm.trans f2
  obtain ⟨kC, hkC, -⟩ := hcls.2
  have hcc : cellV.cls = (cxD Γ).1 ci := Option.some.inj (g4.symm.trans hcls.1)
  refine W.aast F.1 F.2.1 hat (fun q h => by cases h) (fun h => by cases h) k1 k2 rfl hkE ⟨h0, by show _ < (arrV _ _ _).slots.size; rw [arrV_size]; exact hlt⟩ g1 (fun q h => by rw [h] at g2; cases g2) (by rw [hcc]; exact hkC) f3 rfl rfl d fun H1 e z oq => ?_
  refine aw_k (kk _ hK) (h1.up hB ?_ (fun b hb _ => oq b hb)) (s_put h2 z oq hB) h3 h4 h5
  show H1[a]? = some (vp_cell _ _)
  rw [e]
  rw [vp_cell_q, vp_cell_q, arrV_store]
  congr 2
  funext q
  by_cases hq : q = i.toNatClampNeg
  · subst hq
    simp [updV, va_up, va_rf]
  · simp [updV, va_up, hq]
theorem r_aastN (F : FX Γ M cc own) (d : decode cc pc = .ok (.aastore, 1)) {a : Nat} {i : Int32} {K : Hp → Prop} (hw : sO Γ h a i none K) (kk : ∀ h', K h' → AW Γ M h' k (pc + 1) L st) : AW Γ M h k pc L (.null :: .int i :: .ref a :: st) := by
  obtain ⟨n, f, ha, hin, hK⟩ := sO_inv hw
  intro H locs cells slots ls h1 h2 h3 h4 h5
  obtain ⟨hB, hat⟩ := h1 a _ ha
  refine va_WaastN (C := "java/lang/Object") F.1 F.2.1 hat ((F.2.2.2.2.2.1.1.2 4 _ rfl).1 n (fun j => va_rf (f j))) (fun h => by cases h) (by show ¬ (i < 0 ∨ (arrV _ _ _).slots.size ≤ _); rw [arrV_size]; exact hin) rfl rfl d fun H1 e z oq => ?_
  refine aw_k (kk _ hK) (h1.up hB ?_ (fun b hb _ => oq b hb)) (s_put h2 z oq hB) h3 h4 h5
  show H1[a]? = some (vp_cell _ _)
  rw [e]
  rw [vp_cell_q, vp_cell_q, arrV_store]
  congr 2
  funext q
  by_cases hq : q = i.toNatClampNeg
  · subst hq
    simp [updV, va_up, va_rf]
  · simp [updV, va_up, hq]
theorem r_aastO (F : FX Γ M cc own) (d : decode cc pc = .ok (.aastore, 1)) {a : Nat} {x : Option Nat} {i : Int32} {K : Hp → Prop} (he : isE Γ h x) (hw : sO Γ h a i x K) (kk : ∀ h', K h' → AW Γ M h' k (pc + 1) L st) : AW Γ M h k pc L (va_rf x :: .int i :: .ref a :: st) := by
  cases x with
  | none => exact r_aastN F d hw kk
  | some v => exact r_aast F d he hw kk
/-- a nest mate's field is written -/
theorem r_pfN {ref C host : String} {T : u_T} {N ci index : Nat} (F : FX Γ M cc own) (hin : ∀ w ∈ u_ws C T N, w ∈ lw_all) {ty0 : Nat → FieldType} (hty : ∀ k, k < N → parseFieldDescriptor (T k).2.2.1 = some (ty0 k)) (hnm : ∀ a, a < N → ∀ b, b < N → a ≠ b → (T a).2.1 ≠ (T b).2.1) (hc : Cl[ci]? = some (C, T, N)) (kf : Nat) (hk : kf < N) (w : Cond.fieldLinkNest own index ref (T kf).2.1 (T kf).2.2.1 host ∈ lw_tbl) (hsame : ∀ x, (mS M).fieldFound? (T kf).1 (T kf).2.1 (T kf).2.2.1 = some x → (mS M).fieldFound? ref (T kf).2.1 (T kf).2.2.1 = some x) (hfin : (T kf).2.2.2 = false) (d : decode cc pc = .ok (.putfield index, 3))
    {a : Nat} {v : Value} {K : Hp → Prop} (hn : narrow (ty0 kf) v = v) (hfit : fits (ty0 kf) v = true) (hw : pV h a ci kf v K) (kk : ∀ h', K h' → AW Γ M h' k (pc + 3) L st) : AW Γ M h k pc L (v :: .ref a :: st) := by
  obtain ⟨fs, ha, hl, hK⟩ := pV_inv hw
  intro H locs cells slots ls h1 h2 h3 h4 h5
  obtain ⟨hB, hat⟩ := h1 a _ ha
  have hK1 := F.2.2.2.2.2.1.1
  have hap := va_apart (own := own) F.2.2.2.2.1 hin ty0 hty hnm hK1 hc
  obtain ⟨r, g1, cell, q1, q2, q3, q4⟩ := hat
  have hr : r = (C, T, N) := Option.some.inj (g1.symm.trans hc)
  subst hr
  obtain ⟨hS, hfc, kC, hkC, hkind⟩ := hK1.1 ci _ hc
  obtain ⟨cf, kf', fi, f, hi, hsl⟩ := hS kf hk
  have hlay := F.2.2.2.2.1 _ (hin _ (u_in_lay hk))
  unfold u_lay at hlay
  rw [if_neg (by rw [hfin]; decide)] at hlay
  have hst := (u_facts hfc hkC (u_lays F.2.2.2.2.1 hin hk) hi).1
  have h6 := u_store hfc hkC hkind hlay hi (hty kf hk) hn hfit
  have hw1 : (Cond.fieldLinkNest own index ref (T kf).2.1 (T kf).2.2.1 host).before (mA M) (mS M) = true := va_Nw.use rfl (show va_Nw _ (mS M) from F.2.2.2.2.2.1.2.2.2.2.1 _ w rfl)
  refine va_WputK F.1 F.2.1 (f := f) F.2.2.2.1 hw1 (hsame _ hi) hst (by rw [q2]; exact h6) q1 q3 (by rw [hsl]; exact k2_hasslot (q4 kf hk)) rfl rfl d fun H' e1 e2 e3 => ?_
  rw [hsl] at e1 ⊢
  refine aw_k (kk _ hK) (h1.up hB ⟨_, hc, t_OB.to (V := updV (vp_V fs) kf v) ⟨_, e1, q2, q3, t_set q4 hap hk v⟩ (fun j _ => vp_updV_set hl v j)⟩ (fun b hb _ => e3 b hb)) (s_put h2 e2 e3 hB) h3 h4 h5
/-- private methods and constructors of nest mates -/
theorem r_callVN {C host : String} {T : u_T} {N ci d' u index : Nat} {y : MethodName} {bytes : ByteArray} {maxL : Nat} {ret : Option FieldType} {a : Nat} (As : List Value) {n : Nat} {P : Option Value → Hp → Prop} (F : FX Γ M cc own) (hc : Cl[ci]? = some (C, T, N)) (w1 : Cond.methodLinkNest own index y host ∈ lw_tbl) (w2 : Cond.instanceMethod y ∈ lw_all) (w3 : Cond.selects C y y ∈ lw_all) (w4 : Cond.initialized y.cls ∈ lw_all) (w5 : Cond.code y bytes maxL ret ∈ lw_all)
    (hy : y.cls ≠ "java/lang/invoke/MethodHandle" ∧ y.cls ≠ "java/lang/invoke/VarHandle" ∧ (parseMethodDescriptor y.desc).map (fun d => d.parameters.length) = some n) {dd : Nat} (hD : mD M = dd) (hd : d' + 1 ≤ dd) (hm : maxL ≤ 44) (d : decode cc pc = .ok (.invokevirtual index, 3)) (hn : As.length = n) (hst : (st.map fun v => v.category).sum ≤ 8)
    (ho : isO Γ h a ci) (C0 : Con Γ d' u (y, bytes, maxL, ret) (.ref a :: As) h P) {k' : Nat} (hu : k' + u ≤ k) (kk : ∀ v h', P v h' → AW Γ M h' k' (pc + 3) L (v.toList ++ st)) {st0 : List Value} (hs0 : st0 = As.reverse ++ .ref a :: st) : AW Γ M h k pc L st0 := by
  obtain ⟨fs, ha⟩ := ho
  refine r_call hu (fun H locs cells slots ls h1 h2 h3 h4 h5 => run_of (av := .ref a :: As) ?_) kk
  exact va_runVN ⟨F.1, F.2.1, F.2.2.1, F.2.2.2.1, F.2.2.2.2.1⟩ C0 ⟨va_cnB n F.2.2.2.2.1 (lw_meth w5) rfl rfl rfl (show va_Nw _ (mS M) from F.2.2.2.2.2.1.2.2.2.2.1 _ w1 rfl) (F.2.2.2.2.1 _ w4) hy (room_le (hD ▸ hd) hm _ _), F.2.2.2.2.1 _ w2, F.2.2.2.2.1 _ w3⟩ ⟨PcOf.blind, recv_at F h1 h2 hc ha, PcOf.at F.2.2.2.2.2.1 h1 h2⟩ rfl hn h5.1 hs0 (lv_room hst) d ⟨h3, h4⟩
theorem r_callSN {host : String} {d' u index : Nat} {y : MethodName} {bytes : ByteArray} {maxL : Nat} {ret : Option FieldType} (As : List Value) {n : Nat} {P : Option Value → Hp → Prop} (F : FX Γ M cc own) (w1 : Cond.methodLinkNest own index y host ∈ lw_tbl) (w2 : Cond.static y ∈ lw_all) (w3 : Cond.initialized y.cls ∈ lw_all) (w4 : Cond.code y bytes maxL ret ∈ lw_all)
    (hy : y.cls ≠ "java/lang/invoke/MethodHandle" ∧ y.cls ≠ "java/lang/invoke/VarHandle" ∧ (parseMethodDescriptor y.desc).map (fun d => d.parameters.length) = some n) {dd : Nat} (hD : mD M = dd) (hd : d' + 1 ≤ dd) (hm : maxL ≤ 44) (d : decode cc pc = .ok (.invokestatic index, 3)) (hn : As.length = n) (hst : (st.map fun v => v.category).sum ≤ 8)
    (C0 : Con Γ d' u (y, bytes, maxL, ret) As h P) {k' : Nat} (hu : k' + u ≤ k) (kk : ∀ v h', P v h' → AW Γ M h' k' (pc + 3) L (v.toList ++ st)) {st0 : List Value} (hs0 : st0 = As.reverse ++ st) : AW Γ M h k pc L st0 := by
  refine r_call hu (fun H locs cells slots ls h1 h2 h3 h4 h5 => run_of (av := As) ?_) kk
  exact va_runSN ⟨F.1, F.2.1, F.2.2.1, F.2.2.2.1, F.2.2.2.2.1⟩ C0 ⟨va_cnB n F.2.2.2.2.1 (lw_meth w4) rfl rfl rfl (show va_Nw _ (mS M) from F.2.2.2.2.2.1.2.2.2.2.1 _ w1 rfl) (F.2.2.2.2.1 _ w3) hy (room_le (hD ▸ hd) hm _ _), F.2.2.2.2.1 _ w2, trivial⟩ ⟨PcOf.blind, PcOf.at F.2.2.2.2.2.1 h1 h2⟩ rfl hn h5.1 hs0 (lv_room hst) d ⟨h3, h4⟩
theorem r_callIN {host : String} {d' u index : Nat} {y : MethodName} {bytes : ByteArray} {maxL : Nat} {a : Nat} (As : List Value) {n : Nat} {P : Option Value → Hp → Prop} (F : FX Γ M cc own) (w1 : Cond.methodLinkNest own index y host ∈ lw_tbl) (w2 : Cond.instanceMethod y ∈ lw_all) (w3 : Cond.initialized y.cls ∈ lw_all) (w4 : Cond.code y bytes maxL none ∈ lw_all) (hy1 : y.name = "<init>")
    (hy : y.cls ≠ "java/lang/invoke/MethodHandle" ∧ y.cls ≠ "java/lang/invoke/VarHandle" ∧ (parseMethodDescriptor y.desc).map (fun d => d.parameters.length) = some n) {dd : Nat} (hD : mD M = dd) (hd : d' + 1 ≤ dd) (hm : maxL ≤ 44) (d : decode cc pc = .ok (.invokespecial index, 3)) (hn : As.length = n) (hst : (st.map fun v => v.category).sum ≤ 8)
    (C0 : Con Γ d' u (y, bytes, maxL, none) (.ref a :: As) h P) {k' : Nat} (hu : k' + u ≤ k) (kk : ∀ v h', P v h' → AW Γ M h' k' (pc + 3) L (v.toList ++ st)) {st0 : List Value} (hs0 : st0 = As.reverse ++ .ref a :: st) : AW Γ M h k pc L st0 := by
  refine r_call hu (fun H locs cells slots ls h1 h2 h3 h4 h5 => run_of (av := .ref a :: As) ?_) kk
  exact va_runIN ⟨F.1, F.2.1, F.2.2.1, F.2.2.2.1, F.2.2.2.2.1⟩ C0 ⟨va_cnB n F.2.2.2.2.1 (lw_meth w4) rfl rfl rfl (show va_Nw _ (mS M) from F.2.2.2.2.2.1.2.2.2.2.1 _ w1 rfl) (F.2.2.2.2.1 _ w3) hy (room_le (hD ▸ hd) hm _ _), hy1, F.2.2.2.2.1 _ w2⟩ ⟨PcOf.blind, PcOf.at F.2.2.2.2.2.1 h1 h2⟩ rfl hn h5.1 hs0 (lv_room hst) d ⟨h3, h4⟩
/-- an inherited method: named x at the receiver's class, y at its owner -/
theorem r_callU {C owner : String} {T : u_T} {N ci d' u index : Nat} {x y : MethodName} {bytes : ByteArray} {maxL : Nat} {ret : Option FieldType} {a : Nat} (As : List Value) {n : Nat} {P : Option Value → Hp → Prop} (F : FX Γ M cc own) (hc : Cl[ci]? = some (C, T, N)) (hT : GoodIn lw_all (va_wsU own index C owner x y (ws_ y bytes maxL ret))) (hyx : y = ⟨owner, x.name, x.desc⟩)
    (hy : owner ≠ "java/lang/invoke/MethodHandle" ∧ owner ≠ "java/lang/invoke/VarHandle" ∧ (parseMethodDescriptor x.desc).map (fun d => d.parameters.length) = some n) {dd : Nat} (hD : mD M = dd) (hd : d' + 1 ≤ dd) (hm : maxL ≤ 44) (d : decode cc pc = .ok (.invokevirtual index, 3)) (hn : As.length = n) (hst : (st.map fun v => v.category).sum ≤ 8)
    (ho : isO Γ h a ci) (C0 : Con Γ d' u (y, bytes, maxL, ret) (.ref a :: As) h P) {k' : Nat} (hu : k' + u ≤ k) (kk : ∀ v h', P v h' → AW Γ M h' k' (pc + 3) L (v.toList ++ st)) {st0 : List Value} (hs0 : st0 = As.reverse ++ .ref a :: st) : AW Γ M h k pc L st0 := by
  obtain ⟨fs, ha⟩ := ho
  refine r_call hu (fun H locs cells slots ls h1 h2 h3 h4 h5 => run_of (av := .ref a :: As) ?_) kk
  exact va_runU ⟨F.1, F.2.1, F.2.2.1, F.2.2.2.1, F.2.2.2.2.1⟩ C0 (va_cwU n F.2.2.2.2.1 hT rfl rfl rfl hyx hy (room_le (hD ▸ hd) hm _ _)) ⟨PcOf.blind, recv_at F h1 h2 hc ha, PcOf.at F.2.2.2.2.2.1 h1 h2⟩ rfl hn h5.1 hs0 (lv_room hst) d ⟨h3, h4⟩
/-- an overriding method: x is the owner's, y the receiver's -/
theorem r_callO {C owner : String} {T : u_T} {N ci d' u index : Nat} {x y : MethodName} {bytes b0 : ByteArray} {maxL m0 : Nat} {ret r0 : Option FieldType} {a : Nat} (As : List Value) {n : Nat} {P : Option Value → Hp → Prop} (F : FX Γ M cc own) (hc : Cl[ci]? = some (C, T, N)) (hT : GoodIn lw_all (va_wsO own index C owner x y (ws_ y bytes maxL ret))) (h0 : Cond.code ⟨owner, x.name, x.desc⟩ b0 m0 r0 ∈ lw_all)
    (hy : owner ≠ "java/lang/invoke/MethodHandle" ∧ owner ≠ "java/lang/invoke/VarHandle" ∧ (parseMethodDescriptor x.desc).map (fun d => d.parameters.length) = some n) {dd : Nat} (hD : mD M = dd) (hd : d' + 1 ≤ dd) (hm : maxL ≤ 44) (d : decode cc pc = .ok (.invokevirtual index, 3)) (hn : As.length = n) (hst : (st.map fun v => v.category).sum ≤ 8)
    (ho : isO Γ h a ci) (C0 : Con Γ d' u (y, bytes, maxL, ret) (.ref a :: As) h P) {k' : Nat} (hu : k' + u ≤ k) (kk : ∀ v h', P v h' → AW Γ M h' k' (pc + 3) L (v.toList ++ st)) {st0 : List Value} (hs0 : st0 = As.reverse ++ .ref a :: st) : AW Γ M h k pc L st0 := by
  obtain ⟨fs, ha⟩ := ho
  refine r_call hu (fun H locs cells slots ls h1 h2 h3 h4 h5 => run_of (av := .ref a :: As) ?_) kk
  exact va_runU ⟨F.1, F.2.1, F.2.2.1, F.2.2.2.1, F.2.2.2.2.1⟩ C0 (va_cwO n F.2.2.2.2.1 hT rfl rfl rfl h0 hy (room_le (hD ▸ hd) hm _ _)) ⟨PcOf.blind, recv_at F h1 h2 hc ha, PcOf.at F.2.2.2.2.2.1 h1 h2⟩ rfl hn h5.1 hs0 (lv_room hst) d ⟨h3, h4⟩
/-- super.m(..) -/
theorem r_callSU {C : String} {T : u_T} {N ci d' u index : Nat} {y : MethodName} {bytes : ByteArray} {maxL : Nat} {ret : Option FieldType} {a : Nat} (As : List Value) {n : Nat} {P : Option Value → Hp → Prop} (F : FX Γ M cc own) (hc : Cl[ci]? = some (C, T, N)) (hT : GoodIn lw_all (va_wsSU own index y (ws_ y bytes maxL ret)))
    (hy : y.name ≠ "<init>" ∧ (parseMethodDescriptor y.desc).map (fun d => d.parameters.length) = some n) {dd : Nat} (hD : mD M = dd) (hd : d' + 1 ≤ dd) (hm : maxL ≤ 44) (d : decode cc pc = .ok (.invokespecial index, 3)) (hn : As.length = n) (hst : (st.map fun v => v.category).sum ≤ 8)
    (ho : isO Γ h a ci) (C0 : Con Γ d' u (y, bytes, maxL, ret) (.ref a :: As) h P) {k' : Nat} (hu : k' + u ≤ k) (kk : ∀ v h', P v h' → AW Γ M h' k' (pc + 3) L (v.toList ++ st)) {st0 : List Value} (hs0 : st0 = As.reverse ++ .ref a :: st) : AW Γ M h k pc L st0 := by
  obtain ⟨fs, ha⟩ := ho
  refine r_call hu (fun H locs cells slots ls h1 h2 h3 h4 h5 => run_of (av := .ref a :: As) ?_) kk
  exact va_runSU (F.2.2.2.2.2.1.1.1 ci _ hc).2 ⟨F.1, F.2.1, F.2.2.1, F.2.2.2.1, F.2.2.2.2.1⟩ C0 (va_cwSU n F.2.2.2.2.1 hT rfl rfl rfl hy (room_le (hD ▸ hd) hm _ _)) ⟨PcOf.blind, recv_at F h1 h2 hc ha, PcOf.at F.2.2.2.2.2.1 h1 h2⟩ rfl hn h5.1 hs0 (lv_room hst) d ⟨h3, h4⟩
theorem run5_of {H : Heap} {locs : List Loc} {cells slots u pc : Nat} {ls : Array Slot} {st0 st : List Value} {av : List Value} {P : Option Value → Hp → Prop} (hr : va_Run5 (mP M) Γ.1 (mE M) (rmm (mD M) (mU M)) (mS M) (mM M) (mA M) (mF M) (mMe M) (mC M) H locs cells slots u u (F0 (mM M) pc ls st0) st (QcOf Γ P av.toArray) (fun q => cxB Γ ≤ q)) : CRun Γ M h pc ls st0 st P H locs cells slots u 5 := by
  intro T hT X
  obtain ⟨v, st₀, t, T', Ls, e0, X', hL, e1, e2, hq, go⟩ := hr T hT X
  exact ⟨v, st₀, t, T', Ls, e0, X', hL, e1, hq, go⟩
/-- a call through an interface -/
theorem r_callF {C : String} {T : u_T} {N ci d' u index count : Nat} {x y : MethodName} {bytes : ByteArray} {maxL : Nat} {ret : Option FieldType} {a : Nat} (As : List Value) {n : Nat} {P : Option Value → Hp → Prop} (F : FX Γ M cc own) (hc : Cl[ci]? = some (C, T, N)) (hT : GoodIn lw_all (va_wsF own index C x y (ws_ y bytes maxL ret))) (hf : (C, x, y) ∈ fwL)
    (hy : x.cls ≠ "java/lang/invoke/MethodHandle" ∧ x.cls ≠ "java/lang/invoke/VarHandle" ∧ (parseMethodDescriptor x.desc).map (fun d => d.parameters.length) = some n) {dd : Nat} (hD : mD M = dd) (hd : d' + 1 ≤ dd) (hm : maxL ≤ 44) (d : decode cc pc = .ok (.invokeinterface index count, 5)) (hn : As.length = n) (hst : (st.map fun v => v.category).sum ≤ 8)
    (ho : isO Γ h a ci) (C0 : Con Γ d' u (y, bytes, maxL, ret) (.ref a :: As) h P) {k' : Nat} (hu : k' + u ≤ k) (kk : ∀ v h', P v h' → AW Γ M h' k' (pc + 5) L (v.toList ++ st)) {st0 : List Value} (hs0 : st0 = As.reverse ++ .ref a :: st) : AW Γ M h k pc L st0 := by
  obtain ⟨fs, ha⟩ := ho
  refine r_call hu (fun H locs cells slots ls h1 h2 h3 h4 h5 => run5_of (av := .ref a :: As) ?_) kk
  exact va_runF (F.2.2.2.2.2.1.1.1 ci _ hc).2 ⟨F.1, F.2.1, F.2.2.1, F.2.2.2.1, F.2.2.2.2.1⟩ C0 (va_cwF n F.2.2.2.2.1 hT rfl rfl rfl (F.2.2.2.2.2.1.2.2.2.2.2.1 _ hf) hy (room_le (hD ▸ hd) hm _ _)) ⟨PcOf.blind, recv_at F h1 h2 hc ha, PcOf.at F.2.2.2.2.2.1 h1 h2⟩ rfl hn h5.1 hs0 (lv_room hst) d ⟨h3, h4⟩
/-- a method in which a path ends is left out -/
theorem r_dead (hw : False) : AW Γ M h k pc L st := hw.elim
end H4
