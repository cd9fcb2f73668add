set_option maxRecDepth 100000
/-! CORE 2: what a method does to the abstract heap: the words of the conditions (gV, pV, ..) and their rows -/
def gV (Γ : Cx) (h : Hp) (a ci kf : Nat) (K : Value → Prop) : Prop := match look Γ h a with
  | some (.inr (c, fs)) => c = ci ∧ (match fs[kf]? with
    | some v => K v
    | none => False)
  | _ => False
theorem gV_inv {Γ : Cx} {h : Hp} {a ci kf : Nat} {K : Value → Prop} (hw : gV Γ h a ci kf K) : ∃ (fs : List Value) (v : Value), look Γ h a = some (.inr (ci, fs)) ∧ fs[kf]? = some v ∧ K v := by
  unfold gV at hw
  split at hw
  · rename_i c fs he
    obtain ⟨rfl, h2⟩ := hw
    split at h2
    · rename_i v hv
      exact ⟨fs, v, he, hv, h2⟩
    · exact h2.elim
  · exact hw.elim
def vI (K : Int32 → Prop) : Value → Prop
  | .int x => K x
  | _ => False
def vJ (K : Int64 → Prop) : Value → Prop
  | .long x => K x
  | _ => False
def vR (K : Nat → Prop) : Value → Prop
  | .ref x => K x
  | _ => False
def vO (K : Option Nat → Prop) : Value → Prop
  | .ref x => K (some x)
  | .null => K none
  | _ => False
theorem vI_inv {K : Int32 → Prop} {v : Value} (h : vI K v) : ∃ x, v = .int x ∧ K x := by
  cases v <;> first | exact h.elim | exact ⟨_, rfl, h⟩
theorem vJ_inv {K : Int64 → Prop} {v : Value} (h : vJ K v) : ∃ x, v = .long x ∧ K x := by
  cases v <;> first | exact h.elim | exact ⟨_, rfl, h⟩
theorem vR_inv {K : Nat → Prop} {v : Value} (h : vR K v) : ∃ x, v = .ref x ∧ K x := by
  cases v <;> first | exact h.elim | exact ⟨_, rfl, h⟩
theorem vO_inv {K : Option Nat → Prop} {v : Value} (h : vO K v) : ∃ x, v = va_rf x ∧ K x := by
  cases v <;> first | exact h.elim | exact ⟨none, rfl, h⟩ | exact ⟨some _, rfl, h⟩
/-- a field is written -/
def pV (h : Hp) (a ci kf : Nat) (v : Value) (K : Hp → Prop) : Prop := match h a with
  | some (.inr (c, fs)) => c = ci ∧ kf < fs.length ∧ K (hup h a (.inr (c, fs.set kf v)))
  | _ => False
theorem pV_inv {h : Hp} {a ci kf : Nat} {v : Value} {K : Hp → Prop} (hw : pV h a ci kf v K) : ∃ (fs : List Value), h a = some (.inr (ci, fs)) ∧ kf < fs.length ∧ K (hup h a (.inr (ci, fs.set kf v))) := by
  unfold pV at hw
  split at hw
  · rename_i c fs he
    obtain ⟨rfl, h2, h3⟩ := hw
    exact ⟨fs, he, h2, h3⟩
  · exact hw.elim
/-- arrays: t is the kind's place in cxT; int-like, long, references -/
def aI (Γ : Cx) (h : Hp) (a t : Nat) (i : Int32) (K : Int32 → Prop) : Prop := match look Γ h a with
  | some (.inl (c, n, .inl f)) => c = cxA Γ t ∧ vp_in i n ∧ K (f i.toNatClampNeg)
  | _ => False
def aJ (Γ : Cx) (h : Hp) (a : Nat) (i : Int32) (K : Int64 → Prop) : Prop := match look Γ h a with
  | some (.inl (c, n, .inr (.inl f))) => c = cxA Γ 2 ∧ vp_in i n ∧ K (f i.toNatClampNeg)
  | _ => False
def aO (Γ : Cx) (h : Hp) (a : Nat) (i : Int32) (K : Option Nat → Prop) : Prop := match look Γ h a with
  | some (.inl (c, n, .inr (.inr (.inr (.inr f))))) => c = cxA Γ 4 ∧ vp_in i n ∧ K (f i.toNatClampNeg)
  | _ => False
def oR (K : Nat → Prop) : Option Nat → Prop
  | some x => K x
  | none => False
theorem oR_inv {K : Nat → Prop} {o : Option Nat} (h : oR K o) : ∃ x, o = some x ∧ K x := by
  cases o <;> first | exact h.elim | exact ⟨_, rfl, h⟩
def aL (Γ : Cx) (h : Hp) (a : Nat) (K : Int32 → Prop) : Prop := match look Γ h a with
  | some (.inl (c, n, _)) => (∃ t, t < 5 ∧ c = cxA Γ t) ∧ K (nI n)
  | _ => False
theorem aI_inv {Γ : Cx} {h : Hp} {a t : Nat} {i : Int32} {K : Int32 → Prop} (hw : aI Γ h a t i K) : ∃ n f, look Γ h a = some (.inl (cxA Γ t, n, .inl f)) ∧ vp_in i n ∧ K (f i.toNatClampNeg) := by
  unfold aI at hw
  split at hw
  · rename_i c n f he
    obtain ⟨rfl, h2, h3⟩ := hw
    exact ⟨n, f, he, h2, h3⟩
  · exact hw.elim
theorem aJ_inv {Γ : Cx} {h : Hp} {a : Nat} {i : Int32} {K : Int64 → Prop} (hw : aJ Γ h a i K) : ∃ n f, look Γ h a = some (.inl (cxA Γ 2, n, .inr (.inl f))) ∧ vp_in i n ∧ K (f i.toNatClampNeg) := by
  unfold aJ at hw
  split at hw
  · rename_i c n f he
    obtain ⟨rfl, h2, h3⟩ := hw
    exact ⟨n, f, he, h2, h3⟩
  · exact hw.elim
theorem aO_inv {Γ : Cx} {h : Hp} {a : Nat} {i : Int32} {K : Option Nat → Prop} (hw : aO Γ h a i K) : ∃ n f, look Γ h a = some (.inl (cxA Γ 4, n, .inr (.inr (.inr (.inr f))))) ∧ vp_in i n ∧ K (f i.toNatClampNeg) := by
  unfold aO at hw
  split at hw
  · rename_i c n f he
    obtain ⟨rfl, h2, h3⟩ := hw
    exact ⟨n, f, he, h2, h3⟩
  · exact hw.elim
theorem aL_inv {Γ : Cx} {h : Hp} {a : Nat} {K : Int32 → Prop} (hw : aL Γ h a K) : ∃ t n x, t < 5 ∧ look Γ h a = some (.inl (cxA Γ t, n, x)) ∧ K (nI n) := by
  unfold aL at hw
  split at hw
  · rename_i c n x he
    obtain ⟨⟨t, ht, rfl⟩, h3⟩ := hw
    exact ⟨t, n, x, ht, he, h3⟩
  · exact hw.elim
/-- a place of an array is written -/
def sI (Γ : Cx) (h : Hp) (a t : Nat) (i x : Int32) (K : Hp → Prop) : Prop := match h a with
  | some (.inl (c, n, .inl f)) => c = cxA Γ t ∧ vp_in i n ∧ K (hup h a (.inl (c, n, .inl (upd f i.toNatClampNeg x))))
  | _ => False
def sJ (Γ : Cx) (h : Hp) (a : Nat) (i : Int32) (x : Int64) (K : Hp → Prop) : Prop := match h a with
  | some (.inl (c, n, .inr (.inl f))) => c = cxA Γ 2 ∧ vp_in i n ∧ K (hup h a (.inl (c, n, .inr (.inl (vp_updL f i.toNatClampNeg x)))))
  | _ => False
def sO (Γ : Cx) (h : Hp) (a : Nat) (i : Int32) (x : Option Nat) (K : Hp → Prop) : Prop := match h a with
  | some (.inl (c, n, .inr (.inr (.inr (.inr f))))) => c = cxA Γ 4 ∧ vp_in i n ∧ K (hup h a (.inl (c, n, .inr (.inr (.inr (.inr (va_up f i.toNatClampNeg x)))))))
  | _ => False
theorem sI_inv {Γ : Cx} {h : Hp} {a t : Nat} {i x : Int32} {K : Hp → Prop} (hw : sI Γ h a t i x K) : ∃ n f, h a = some (.inl (cxA Γ t, n, .inl f)) ∧ vp_in i n ∧ K (hup h a (.inl (cxA Γ t, n, .inl (upd f i.toNatClampNeg x)))) := by
  unfold sI at hw
  split at hw
  · rename_i c n f he
    obtain ⟨rfl, h2, h3⟩ := hw
    exact ⟨n, f, he, h2, h3⟩
  · exact hw.elim
theorem sJ_inv {Γ : Cx} {h : Hp} {a : Nat} {i : Int32} {x : Int64} {K : Hp → Prop} (hw : sJ Γ h a i x K) : ∃ n f, h a = some (.inl (cxA Γ 2, n, .inr (.inl f))) ∧ vp_in i n ∧ K (hup h a (.inl (cxA Γ 2, n, .inr (.inl (vp_updL f i.toNatClampNeg x))))) := by
  unfold sJ at hw
  split at hw
  · rename_i c n f he
    obtain ⟨rfl, h2, h3⟩ := hw
    exact ⟨n, f, he, h2, h3⟩
  · exact hw.elim
theorem sO_inv {Γ : Cx} {h : Hp} {a : Nat} {i : Int32} {x : Option Nat} {K : Hp → Prop} (hw : sO Γ h a i x K) : ∃ n f, h a = some (.inl (cxA Γ 4, n, .inr (.inr (.inr (.inr f))))) ∧ vp_in i n ∧ K (hup h a (.inl (cxA Γ 4, n, .inr (.inr (.inr (.inr (va_up f i.toNatClampNeg x))))))) := by
  unfold sO at hw
  split at hw
  · rename_i c n f he
    obtain ⟨rfl, h2, h3⟩ := hw
    exact ⟨n, f, he, h2, h3⟩
  · exact hw.elim
/-- an object, an array is made: it costs its cell and its slots -/
def nO (Γ : Cx) (h : Hp) (k ci : Nat) (fs : List Value) (K : Nat → Hp → Nat → Prop) : Prop := fs.length + 1 ≤ k ∧ ∀ a : Nat, h a = none → cxB Γ ≤ a → K a (hup h a (.inr (ci, fs))) (k - (fs.length + 1))
def nA (Γ : Cx) (h : Hp) (k t : Nat) (z : Nat → vp_A) (i : Int32) (K : Nat → Hp → Nat → Prop) : Prop := ∃ n : Nat, i = nI n ∧ n < 60000000 ∧ n + 1 ≤ k ∧ ∀ a : Nat, h a = none → cxB Γ ≤ a → K a (hup h a (.inl (cxA Γ t, z n))) (k - (n + 1))
abbrev zI (n : Nat) : vp_A := (n, .inl (fun _ => 0))
abbrev zJ (n : Nat) : vp_A := (n, .inr (.inl (fun _ => 0)))
abbrev zO (n : Nat) : vp_A := (n, .inr (.inr (.inr (.inr (fun _ => none)))))
/-- a loop: a variant that falls, an invariant -/
def NextF (N n : Nat) (J : Nat → Prop) : Prop := ∃ m, m < N - n ∧ ∃ n', n' ≤ N ∧ m = N - n' ∧ J n'
theorem NextF.mk {N n : Nat} {J : Nat → Prop} (h : n < N) (hj : J (n + 1)) : NextF N n J := ⟨N - (n + 1), by omega, n + 1, h, rfl, hj⟩
def Lp1 {A1 : Type} (body : A1 → (A1 → Prop) → Prop) (a1 : A1) : Prop := ∃ I : Nat → A1 → Prop, (∃ n, I n a1) ∧ ∀ n y1, I n y1 → body y1 (fun z1 => ∃ m, m < n ∧ I m z1)
theorem Lp1.for {A1 : Type} {body : A1 → (A1 → Prop) → Prop} {a1 : A1} (N : Nat) (J : Nat → A1 → Prop) (h0 : J 0 a1) (hs : ∀ n y1, n ≤ N → J n y1 → body y1 (fun z1 => NextF N n (fun j => J j z1))) : Lp1 body a1 :=
  ⟨fun v y1 => ∃ n, n ≤ N ∧ v = N - n ∧ J n y1, ⟨N, 0, Nat.zero_le _, rfl, h0⟩, fun v y1 hI => by
    obtain ⟨n, hn, rfl, hj⟩ := hI
    exact hs n y1 hn hj⟩
theorem Lp1.var {A1 : Type} {body : A1 → (A1 → Prop) → Prop} {a1 : A1} (I : Nat → A1 → Prop) (n0 : Nat) (h0 : I n0 a1) (hs : ∀ n y1, I n y1 → body y1 (fun z1 => ∃ m, m < n ∧ I m z1)) : Lp1 body a1 := ⟨I, ⟨n0, h0⟩, hs⟩
def Lp2 {A1 A2 : Type} (body : A1 → A2 → (A1 → A2 → Prop) → Prop) (a1 : A1) (a2 : A2) : Prop := ∃ I : Nat → A1 → A2 → Prop, (∃ n, I n a1 a2) ∧ ∀ n y1 y2, I n y1 y2 → body y1 y2 (fun z1 z2 => ∃ m, m < n ∧ I m z1 z2)
theorem Lp2.for {A1 A2 : Type} {body : A1 → A2 → (A1 → A2 → Prop) → Prop} {a1 : A1} {a2 : A2} (N : Nat) (J : Nat → A1 → A2 → Prop) (h0 : J 0 a1 a2) (hs : ∀ n y1 y2, n ≤ N → J n y1 y2 → body y1 y2 (fun z1 z2 => NextF N n (fun j => J j z1 z2))) : Lp2 body a1 a2 :=
  ⟨fun v y1 y2 => ∃ n, n ≤ N ∧ v = N - n ∧ J n y1 y2, ⟨N, 0, Nat.zero_le _, rfl, h0⟩, fun v y1 y2 hI => by
    obtain ⟨n, hn, rfl, hj⟩ := hI
    exact hs n y1 y2 hn hj⟩
theorem Lp2.var {A1 A2 : Type} {body : A1 → A2 → (A1 → A2 → Prop) → Prop} {a1 : A1} {a2 : A2} (I : Nat → A1 → A2 → Prop) (n0 : Nat) (h0 : I n0 a1 a2) (hs : ∀ n y1 y2, I n y1 y2 → body y1 y2 (fun z1 z2 => ∃ m, m < n ∧ I m z1 z2)) : Lp2 body a1 a2 := ⟨I, ⟨n0, h0⟩, hs⟩
def Lp3 {A1 A2 A3 : Type} (body : A1 → A2 → A3 → (A1 → A2 → A3 → Prop) → Prop) (a1 : A1) (a2 : A2) (a3 : A3) : Prop := ∃ I : Nat → A1 → A2 → A3 → Prop, (∃ n, I n a1 a2 a3) ∧ ∀ n y1 y2 y3, I n y1 y2 y3 → body y1 y2 y3 (fun z1 z2 z3 => ∃ m, m < n ∧ I m z1 z2 z3)
theorem Lp3.for {A1 A2 A3 : Type} {body : A1 → A2 → A3 → (A1 → A2 → A3 → Prop) → Prop} {a1 : A1} {a2 : A2} {a3 : A3} (N : Nat) (J : Nat → A1 → A2 → A3 → Prop) (h0 : J 0 a1 a2 a3) (hs : ∀ n y1 y2 y3, n ≤ N → J n y1 y2 y3 → body y1 y2 y3 (fun z1 z2 z3 => NextF N n (fun j => J j z1 z2 z3))) : Lp3 body a1 a2 a3 :=
  ⟨fun v y1 y2 y3 => ∃ n, n ≤ N ∧ v = N - n ∧ J n y1 y2 y3, ⟨N, 0, Nat.zero_le _, rfl, h0⟩, fun v y1 y2 y3 hI => by
    obtain ⟨n, hn, rfl, hj⟩ := hI
    exact hs n y1 y2 y3 hn hj⟩
theorem Lp3.var {A1 A2 A3 : Type} {body : A1 → A2 → A3 → (A1 → A2 → A3 → Prop) → Prop} {a1 : A1} {a2 : A2} {a3 : A3} (I : Nat → A1 → A2 → A3 → Prop) (n0 : Nat) (h0 : I n0 a1 a2 a3) (hs : ∀ n y1 y2 y3, I n y1 y2 y3 → body y1 y2 y3 (fun z1 z2 z3 => ∃ m, m < n ∧ I m z1 z2 z3)) : Lp3 body a1 a2 a3 := ⟨I, ⟨n0, h0⟩, hs⟩
def Lp4 {A1 A2 A3 A4 : Type} (body : A1 → A2 → A3 → A4 → (A1 → A2 → A3 → A4 → Prop) → Prop) (a1 : A1) (a2 : A2) (a3 : A3) (a4 : A4) : Prop := ∃ I : Nat → A1 → A2 → A3 → A4 → Prop, (∃ n, I n a1 a2 a3 a4) ∧ ∀ n y1 y2 y3 y4, I n y1 y2 y3 y4 → body y1 y2 y3 y4 (fun z1 z2 z3 z4 => ∃ m, m < n ∧ I m z1 z2 z3 z4)
theorem Lp4.for {A1 A2 A3 A4 : Type} {body : A1 → A2 → A3 → A4 → (A1 → A2 → A3 → A4 → Prop) → Prop} {a1 : A1} {a2 : A2} {a3 : A3} {a4 : A4} (N : Nat) (J : Nat → A1 → A2 → A3 → A4 → Prop) (h0 : J 0 a1 a2 a3 a4) (hs : ∀ n y1 y2 y3 y4, n ≤ N → J n y1 y2 y3 y4 → body y1 y2 y3 y4 (fun z1 z2 z3 z4 => NextF N n (fun j => J j z1 z2 z3 z4))) : Lp4 body a1 a2 a3 a4 :=
  ⟨fun v y1 y2 y3 y4 => ∃ n, n ≤ N ∧ v = N - n ∧ J n y1 y2 y3 y4, ⟨N, 0, Nat.zero_le _, rfl, h0⟩, fun v y1 y2 y3 y4 hI => by
    obtain ⟨n, hn, rfl, hj⟩ := hI
    exact hs n y1 y2 y3 y4 hn hj⟩
theorem Lp4.var {A1 A2 A3 A4 : Type} {body : A1 → A2 → A3 → A4 → (A1 → A2 → A3 → A4 → Prop) → Prop} {a1 : A1} {a2 : A2} {a3 : A3} {a4 : A4} (I : Nat → A1 → A2 → A3 → A4 → Prop) (n0 : Nat) (h0 : I n0 a1 a2 a3 a4) (hs : ∀ n y1 y2 y3 y4, I n y1 y2 y3 y4 → body y1 y2 y3 y4 (fun z1 z2 z3 z4 => ∃ m, m < n ∧ I m z1 z2 z3 z4)) : Lp4 body a1 a2 a3 a4 := ⟨I, ⟨n0, h0⟩, hs⟩
def Lp5 {A1 A2 A3 A4 A5 : Type} (body : A1 → A2 → A3 → A4 → A5 → (A1 → A2 → A3 → A4 → A5 → Prop) → Prop) (a1 : A1) (a2 : A2) (a3 : A3) (a4 : A4) (a5 : A5) : Prop := ∃ I : Nat → A1 → A2 → A3 → A4 → A5 → Prop, (∃ n, I n a1 a2 a3 a4 a5) ∧ ∀ n y1 y2 y3 y4 y5, I n y1 y2 y3 y4 y5 → body y1 y2 y3 y4 y5 (fun z1 z2 z3 z4 z5 => ∃ m, m < n ∧ I m z1 z2 z3 z4 z5)
theorem Lp5.for {A1 A2 A3 A4 A5 : Type} {body : A1 → A2 → A3 → A4 → A5 → (A1 → A2 → A3 → A4 → A5 → Prop) → Prop} {a1 : A1} {a2 : A2} {a3 : A3} {a4 : A4} {a5 : A5} (N : Nat) (J : Nat → A1 → A2 → A3 → A4 → A5 → Prop) (h0 : J 0 a1 a2 a3 a4 a5) (hs : ∀ n y1 y2 y3 y4 y5, n ≤ N → J n y1 y2 y3 y4 y5 → body y1 y2 y3 y4 y5 (fun z1 z2 z3 z4 z5 => NextF N n (fun j => J j z1 z2 z3 z4 z5))) : Lp5 body a1 a2 a3 a4 a5 :=
  ⟨fun v y1 y2 y3 y4 y5 => ∃ n, n ≤ N ∧ v = N - n ∧ J n y1 y2 y3 y4 y5, ⟨N, 0, Nat.zero_le _, rfl, h0⟩, fun v y1 y2 y3 y4 y5 hI => by
    obtain ⟨n, hn, rfl, hj⟩ := hI
    exact hs n y1 y2 y3 y4 y5 hn hj⟩
theorem Lp5.var {A1 A2 A3 A4 A5 : Type} {body : A1 → A2 → A3 → A4 → A5 → (A1 → A2 → A3 → A4 → A5 → Prop) → Prop} {a1 : A1} {a2 : A2} {a3 : A3} {a4 : A4} {a5 : A5} (I : Nat → A1 → A2 → A3 → A4 → A5 → Prop) (n0 : Nat) (h0 : I n0 a1 a2 a3 a4 a5) (hs : ∀ n y1 y2 y3 y4 y5, I n y1 y2 y3 y4 y5 → body y1 y2 y3 y4 y5 (fun z1 z2 z3 z4 z5 => ∃ m, m < n ∧ I m z1 z2 z3 z4 z5)) : Lp5 body a1 a2 a3 a4 a5 := ⟨I, ⟨n0, h0⟩, hs⟩
def Lp6 {A1 A2 A3 A4 A5 A6 : Type} (body : A1 → A2 → A3 → A4 → A5 → A6 → (A1 → A2 → A3 → A4 → A5 → A6 → Prop) → Prop) (a1 : A1) (a2 : A2) (a3 : A3) (a4 : A4) (a5 : A5) (a6 : A6) : Prop := ∃ I : Nat → A1 → A2 → A3 → A4 → A5 → A6 → Prop, (∃ n, I n a1 a2 a3 a4 a5 a6) ∧ ∀ n y1 y2 y3 y4 y5 y6, I n y1 y2 y3 y4 y5 y6 → body y1 y2 y3 y4 y5 y6 (fun z1 z2 z3 z4 z5 z6 => ∃ m, m < n ∧ I m z1 z2 z3 z4 z5 z6)
theorem Lp6.for {A1 A2 A3 A4 A5 A6 : Type} {body : A1 → A2 → A3 → A4 → A5 → A6 → (A1 → A2 → A3 → A4 → A5 → A6 → Prop) → Prop} {a1 : A1} {a2 : A2} {a3 : A3} {a4 : A4} {a5 : A5} {a6 : A6} (N : Nat) (J : Nat → A1 → A2 → A3 → A4 → A5 → A6 → Prop) (h0 : J 0 a1 a2 a3 a4 a5 a6) (hs : ∀ n y1 y2 y3 y4 y5 y6, n ≤ N → J n y1 y2 y3 y4 y5 y6 → body y1 y2 y3 y4 y5 y6 (fun z1 z2 z3 z4 z5 z6 => NextF N n (fun j => J j z1 z2 z3 z4 z5 z6))) : Lp6 body a1 a2 a3 a4 a5 a6 :=
  ⟨fun v y1 y2 y3 y4 y5 y6 => ∃ n, n ≤ N ∧ v = N - n ∧ J n y1 y2 y3 y4 y5 y6, ⟨N, 0, Nat.zero_le _, rfl, h0⟩, fun v y1 y2 y3 y4 y5 y6 hI => by
    obtain ⟨n, hn, rfl, hj⟩ := hI
    exact hs n y1 y2 y3 y4 y5 y6 hn hj⟩
theorem Lp6.var {A1 A2 A3 A4 A5 A6 : Type} {body : A1 → A2 → A3 → A4 → A5 → A6 → (A1 → A2 → A3 → A4 → A5 → A6 → Prop) → Prop} {a1 : A1} {a2 : A2} {a3 : A3} {a4 : A4} {a5 : A5} {a6 : A6} (I : Nat → A1 → A2 → A3 → A4 → A5 → A6 → Prop) (n0 : Nat) (h0 : I n0 a1 a2 a3 a4 a5 a6) (hs : ∀ n y1 y2 y3 y4 y5 y6, I n y1 y2 y3 y4 y5 y6 → body y1 y2 y3 y4 y5 y6 (fun z1 z2 z3 z4 z5 z6 => ∃ m, m < n ∧ I m z1 z2 z3 z4 z5 z6)) : Lp6 body a1 a2 a3 a4 a5 a6 := ⟨I, ⟨n0, h0⟩, hs⟩
def Lp7 {A1 A2 A3 A4 A5 A6 A7 : Type} (body : A1 → A2 → A3 → A4 → A5 → A6 → A7 → (A1 → A2 → A3 → A4 → A5 → A6 → A7 → Prop) → Prop) (a1 : A1) (a2 : A2) (a3 : A3) (a4 : A4) (a5 : A5) (a6 : A6) (a7 : A7) : Prop := ∃ I : Nat → A1 → A2 → A3 → A4 → A5 → A6 → A7 → Prop, (∃ n, I n a1 a2 a3 a4 a5 a6 a7) ∧ ∀ n y1 y2 y3 y4 y5 y6 y7, I n y1 y2 y3 y4 y5 y6 y7 → body y1 y2 y3 y4 y5 y6 y7 (fun z1 z2 z3 z4 z5 z6 z7 => ∃ m, m < n ∧ I m z1 z2 z3 z4 z5 z6 z7)
theorem Lp7.for {A1 A2 A3 A4 A5 A6 A7 : Type} {body : A1 → A2 → A3 → A4 → A5 → A6 → A7 → (A1 → A2 → A3 → A4 → A5 → A6 → A7 → Prop) → Prop} {a1 : A1} {a2 : A2} {a3 : A3} {a4 : A4} {a5 : A5} {a6 : A6} {a7 : A7} (N : Nat) (J : Nat → A1 → A2 → A3 → A4 → A5 → A6 → A7 → Prop) (h0 : J 0 a1 a2 a3 a4 a5 a6 a7) (hs : ∀ n y1 y2 y3 y4 y5 y6 y7, n ≤ N → J n y1 y2 y3 y4 y5 y6 y7 → body y1 y2 y3 y4 y5 y6 y7 (fun z1 z2 z3 z4 z5 z6 z7 => NextF N n (fun j => J j z1 z2 z3 z4 z5 z6 z7))) : Lp7 body a1 a2 a3 a4 a5 a6 a7 :=
  ⟨fun v y1 y2 y3 y4 y5 y6 y7 => ∃ n, n ≤ N ∧ v = N - n ∧ J n y1 y2 y3 y4 y5 y6 y7, ⟨N, 0, Nat.zero_le _, rfl, h0⟩, fun v y1 y2 y3 y4 y5 y6 y7 hI => by
    obtain ⟨n, hn, rfl, hj⟩ := hI
    exact hs n y1 y2 y3 y4 y5 y6 y7 hn hj⟩
theorem Lp7.var {A1 A2 A3 A4 A5 A6 A7 : Type} {body : A1 → A2 → A3 → A4 → A5 → A6 → A7 → (A1 → A2 → A3 → A4 → A5 → A6 → A7 → Prop) → Prop} {a1 : A1} {a2 : A2} {a3 : A3} {a4 : A4} {a5 : A5} {a6 : A6} {a7 : A7} (I : Nat → A1 → A2 → A3 → A4 → A5 → A6 → A7 → Prop) (n0 : Nat) (h0 : I n0 a1 a2 a3 a4 a5 a6 a7) (hs : ∀ n y1 y2 y3 y4 y5 y6 y7, I n y1 y2 y3 y4 y5 y6 y7 → body y1 y2 y3 y4 y5 y6 y7 (fun z1 z2 z3 z4 z5 z6 z7 => ∃ m, m < n ∧ I m z1 z2 z3 z4 z5 z6 z7)) : Lp7 body a1 a2 a3 a4 a5 a6 a7 := ⟨I, ⟨n0, h0⟩, hs⟩
def Lp8 {A1 A2 A3 A4 A5 A6 A7 A8 : Type} (body : A1 → A2 → A3 → A4 → A5 → A6 → A7 → A8 → (A1 → A2 → A3 → A4 → A5 → A6 → A7 → A8 → Prop) → Prop) (a1 : A1) (a2 : A2) (a3 : A3) (a4 : A4) (a5 : A5) (a6 : A6) (a7 : A7) (a8 : A8) : Prop := ∃ I : Nat → A1 → A2 → A3 → A4 → A5 → A6 → A7 → A8 → Prop, (∃ n, I n a1 a2 a3 a4 a5 a6 a7 a8) ∧ ∀ n y1 y2 y3 y4 y5 y6 y7 y8, I n y1 y2 y3 y4 y5 y6 y7 y8 → body y1 y2 y3 y4 y5 y6 y7 y8 (fun z1 z2 z3 z4 z5 z6 z7 z8 => ∃ m, m < n ∧ I m z1 z2 z3 z4 z5 z6 z7 z8)
theorem Lp8.for {A1 A2 A3 A4 A5 A6 A7 A8 : Type} {body : A1 → A2 → A3 → A4 → A5 → A6 → A7 → A8 → (A1 → A2 → A3 → A4 → A5 → A6 → A7 → A8 → Prop) → Prop} {a1 : A1} {a2 : A2} {a3 : A3} {a4 : A4} {a5 : A5} {a6 : A6} {a7 : A7} {a8 : A8} (N : Nat) (J : Nat → A1 → A2 → A3 → A4 → A5 → A6 → A7 → A8 → Prop) (h0 : J 0 a1 a2 a3 a4 a5 a6 a7 a8) (hs : ∀ n y1 y2 y3 y4 y5 y6 y7 y8, n ≤ N → J n y1 y2 y3 y4 y5 y6 y7 y8 → body y1 y2 y3 y4 y5 y6 y7 y8 (fun z1 z2 z3 z4 z5 z6 z7 z8 => NextF N n (fun j => J j z1 z2 z3 z4 z5 z6 z7 z8))) : Lp8 body a1 a2 a3 a4 a5 a6 a7 a8 :=
  ⟨fun v y1 y2 y3 y4 y5 y6 y7 y8 => ∃ n, n ≤ N ∧ v = N - n ∧ J n y1 y2 y3 y4 y5 y6 y7 y8, ⟨N, 0, Nat.zero_le _, rfl, h0⟩, fun v y1 y2 y3 y4 y5 y6 y7 y8 hI => by
    obtain ⟨n, hn, rfl, hj⟩ := hI
    exact hs n y1 y2 y3 y4 y5 y6 y7 y8 hn hj⟩
theorem Lp8.var {A1 A2 A3 A4 A5 A6 A7 A8 : Type} {body : A1 → A2 → A3 → A4 → A5 → A6 → A7 → A8 → (A1 → A2 → A3 → A4 → A5 → A6 → A7 → A8 → Prop) → Prop} {a1 : A1} {a2 : A2} {a3 : A3} {a4 : A4} {a5 : A5} {a6 : A6} {a7 : A7} {a8 : A8} (I : Nat → A1 → A2 → A3 → A4 → A5 → A6 → A7 → A8 → Prop) (n0 : Nat) (h0 : I n0 a1 a2 a3 a4 a5 a6 a7 a8) (hs : ∀ n y1 y2 y3 y4 y5 y6 y7 y8, I n y1 y2 y3 y4 y5 y6 y7 y8 → body y1 y2 y3 y4 y5 y6 y7 y8 (fun z1 z2 z3 z4 z5 z6 z7 z8 => ∃ m, m < n ∧ I m z1 z2 z3 z4 z5 z6 z7 z8)) : Lp8 body a1 a2 a3 a4 a5 a6 a7 a8 := ⟨I, ⟨n0, h0⟩, hs⟩
def Lp9 {A1 A2 A3 A4 A5 A6 A7 A8 A9 : Type} (body : A1 → A2 → A3 → A4 → A5 → A6 → A7 → A8 → A9 → (A1 → A2 → A3 → A4 → A5 → A6 → A7 → A8 → A9 → Prop) → Prop) (a1 : A1) (a2 : A2) (a3 : A3) (a4 : A4) (a5 : A5) (a6 : A6) (a7 : A7) (a8 : A8) (a9 : A9) : Prop := ∃ I : Nat → A1 → A2 → A3 → A4 → A5 → A6 → A7 → A8 → A9 → Prop, (∃ n, I n a1 a2 a3 a4 a5 a6 a7 a8 a9) ∧ ∀ n y1 y2 y3 y4 y5 y6 y7 y8 y9, I n y1 y2 y3 y4 y5 y6 y7 y8 y9 → body y1 y2 y3 y4 y5 y6 y7 y8 y9 (fun z1 z2 z3 z4 z5 z6 z7 z8 z9 => ∃ m, m < n ∧ I m z1 z2 z3 z4 z5 z6 z7 z8 z9)
theorem Lp9.for {A1 A2 A3 A4 A5 A6 A7 A8 A9 : Type} {body : A1 → A2 → A3 → A4 → A5 → A6 → A7 → A8 → A9 → (A1 → A2 → A3 → A4 → A5 → A6 → A7 → A8 → A9 → Prop) → Prop} {a1 : A1} {a2 : A2} {a3 : A3} {a4 : A4} {a5 : A5} {a6 : A6} {a7 : A7} {a8 : A8} {a9 : A9} (N : Nat) (J : Nat → A1 → A2 → A3 → A4 → A5 → A6 → A7 → A8 → A9 → Prop) (h0 : J 0 a1 a2 a3 a4 a5 a6 a7 a8 a9) (hs : ∀ n y1 y2 y3 y4 y5 y6 y7 y8 y9, n ≤ N → J n y1 y2 y3 y4 y5 y6 y7 y8 y9 → body y1 y2 y3 y4 y5 y6 y7 y8 y9 (fun z1 z2 z3 z4 z5 z6 z7 z8 z9 => NextF N n (fun j => J j z1 z2 z3 z4 z5 z6 z7 z8 z9))) : Lp9 body a1 a2 a3 a4 a5 a6 a7 a8 a9 :=
  ⟨fun v y1 y2 y3 y4 y5 y6 y7 y8 y9 => ∃ n, n ≤ N ∧ v = N - n ∧ J n y1 y2 y3 y4 y5 y6 y7 y8 y9, ⟨N, 0, Nat.zero_le _, rfl, h0⟩, fun v y1 y2 y3 y4 y5 y6 y7 y8 y9 hI => by
    obtain ⟨n, hn, rfl, hj⟩ := hI
    exact hs n y1 y2 y3 y4 y5 y6 y7 y8 y9 hn hj⟩
theorem Lp9.var {A1 A2 A3 A4 A5 A6 A7 A8 A9 : Type} {body : A1 → A2 → A3 → A4 → A5 → A6 → A7 → A8 → A9 → (A1 → A2 → A3 → A4 → A5 → A6 → A7 → A8 → A9 → Prop) → Prop} {a1 : A1} {a2 : A2} {a3 : A3} {a4 : A4} {a5 : A5} {a6 : A6} {a7 : A7} {a8 : A8} {a9 : A9} (I : Nat → A1 → A2 → A3 → A4 → A5 → A6 → A7 → A8 → A9 → Prop) (n0 : Nat) (h0 : I n0 a1 a2 a3 a4 a5 a6 a7 a8 a9) (hs : ∀ n y1 y2 y3 y4 y5 y6 y7 y8 y9, I n y1 y2 y3 y4 y5 y6 y7 y8 y9 → body y1 y2 y3 y4 y5 y6 y7 y8 y9 (fun z1 z2 z3 z4 z5 z6 z7 z8 z9 => ∃ m, m < n ∧ I m z1 z2 z3 z4 z5 z6 z7 z8 z9)) : Lp9 body a1 a2 a3 a4 a5 a6 a7 a8 a9 := ⟨I, ⟨n0, h0⟩, hs⟩
section HROWS
variable {Γ : Cx} {M : Mx} {h : Hp} {k pc : Nat} {L : List (Nat × Value)} {st : List Value} {cc : ByteArray} {own : String}
theorem cxR_at {t : Nat} {c : ClassId} {ty : FieldType} (h : (cxR Γ)[t]? = some (c, ty)) : t < 6 ∧ c = cxA Γ t := by
  have hl : t < 6 := (List.getElem?_eq_some_iff.mp h).1
  rcases (show t = 0 ∨ t = 1 ∨ t = 2 ∨ t = 3 ∨ t = 4 ∨ t = 5 by omega) with rfl | rfl | rfl | rfl | rfl | rfl <;> (cases h; exact ⟨hl, rfl⟩)
theorem arr_k {a t n : Nat} {x} {ty : FieldType} {H : Heap} {locs : List Loc} (hs : SI Γ (mS M)) (hS : va_S (fun q => cxB Γ ≤ q) (mS M).heap H locs) (ht : (cxR Γ)[t]? = some (cxA Γ t, ty)) (he : cxK Γ a = some (.inl (cxA Γ t, n, x))) : ∃ cell : Cell, H[a]? = some cell ∧ (mS M).isArrayOf cell ty ∧ cell.vm ≠ .unknown ∧ n ≤ cell.slots.size ∧ cell.slots.size.toInt32 = Int32.ofNat n ∧ ∀ j : Nat, j < n → cell.slots[j]? = some (cV x j) := by
  have hk := hs.2.2.1 a _ he
  obtain ⟨cell, t', ty', g1, g2, g3, g4⟩ := hk.2.kept (hS.2.1 a hk.2.lt (Nat.not_le.mpr hk.1))
  have g2 : (cxR Γ)[t']? = some (cxA Γ t, ty') := g2
  obtain ⟨hl, hc⟩ := cxR_at g2
  have htt : t = t' := hs.2.2.2.2.2.2.2.1 t t' (cxR_at ht).1 hl hc
  subst htt
  have hty : ty' = ty := by
    have := g2.symm.trans ht
    simp only [Option.some.injEq, Prod.mk.injEq, true_and] at this
    exact this
  subst hty
  exact ⟨cell, g1, g3, g4⟩
theorem arr_rd {a t n : Nat} {x} {ty : FieldType} {H : Heap} {locs : List Loc} (hs : SI Γ (mS M)) (hr : Rep Γ h H) (hS : va_S (fun q => cxB Γ ≤ q) (mS M).heap H locs) (ht : (cxT Γ)[t]? = some (cxA Γ t, ty)) (he : look Γ h a = some (.inl (cxA Γ t, n, x))) : ∃ cell : Cell, H[a]? = some cell ∧ (mS M).isArrayOf cell ty ∧ cell.vm ≠ .unknown ∧ n ≤ cell.slots.size ∧ cell.slots.size.toInt32 = Int32.ofNat n ∧ ∀ j : Nat, j < n → cell.slots[j]? = some (cV x j) := by
  unfold look at he
  split at he
  · rename_i e hx
    cases he
    have hat := (hr a _ hx).2
    have hat : H[a]? = some (vp_cell (cxA Γ t) (n, x)) := hat
    have key : vp_cell (cxA Γ t) (n, x) = arrV (cxA Γ t) n (cV x) := by
      rcases x with f | f | f | f | f <;> rfl
    rw [key] at hat
    refine ⟨_, hat, (hs.1.2 t _ ht).1 n (cV x), (fun q => by cases q), ?_, ?_, fun j hj => arrV_read _ _ hj⟩
    · rw [arrV_size]; exact Nat.le_refl _
    · rw [arrV_size] <;> rfl
  · refine arr_k hs hS ?_ he
    have hl : t < 5 := (List.getElem?_eq_some_iff.mp ht).1
    rw [List.getElem?_append_left hl]
    exact ht
theorem obj_rd {a ci N : Nat} {C : String} {T : u_T} {fs : List Value} {H : Heap} {locs : List Loc} (hs : SI Γ (mS M)) (hr : Rep Γ h H) (hS : va_S (fun q => cxB Γ ≤ q) (mS M).heap H locs) (hc : Cl[ci]? = some (C, T, N)) (he : look Γ h a = some (.inr (ci, fs))) : ∃ cell : Cell, H[a]? = some cell ∧ cell.vm.isStatics = false ∧ cell.vm ≠ .unknown ∧ (mS M).vm.findClass C = some cell.cls ∧ ∀ (k : Nat) (v : Value), k < N → fs[k]? = some v → cell.slots[(cxD Γ).2 ci k]? = some v := by
  unfold look at he
  split at he
  · rename_i e hx
    cases he
    obtain ⟨r, g1, cell, q1, q2, q3, q4⟩ := (hr a _ hx).2
    have hr' : r = (C, T, N) := Option.some.inj (g1.symm.trans hc)
    subst hr'
    refine ⟨cell, q1, by rw [q3]; rfl, by rw [q3]; exact (fun h => by cases h), by rw [q2]; exact (hs.1.1 ci _ hc).2.1, fun k v hk hv => ?_⟩
    rw [q4 k hk]
    simp [vp_V, hv]
  · have hk := hs.2.2.1 a _ he
    obtain ⟨cell, r, g1, g2, g3, g4, g5, g6⟩ := hk.2.kept (hS.2.1 a hk.2.lt (Nat.not_le.mpr hk.1))
    have hr' : r = (C, T, N) := Option.some.inj (g2.symm.trans hc)
    subst hr'
    exact ⟨cell, g1, g3, g4, g5, g6⟩
theorem vaP1 {D : va_G} {cl : List vw_C} {q : Nat × va_E} {H : Heap} (h : va_at D cl q H) : va_P D cl [q] H := by
  intro k x hx
  have hz : k < 1 := (List.getElem?_eq_some_iff.mp hx).1
  rw [show k = 0 by omega] at hx
  cases hx
  exact h
theorem aw_k {H : Heap} {locs : List Loc} {cells slots : Nat} {ls : Array Slot} {pc' : Nat} {L' : List (Nat × Value)} {st' : List Value} (kk : AW Γ M h k pc' L' st') (h1 : Rep Γ h H) (h2 : va_S (fun q => cxB Γ ≤ q) (mS M).heap H locs) (h3 : cells + k ≤ mU M) (h4 : slots + k ≤ mU M) (h5 : lv_has ls (mN M) L') : WM Γ M H locs cells slots (F0 (mM M) pc' ls st') := kk H locs cells slots ls h1 h2 h3 h4 h5
/-- a field is read: by its class's table -/
theorem r_gf {ref C : String} {T : u_T} {N ci index : Nat} (F : FX Γ M cc own) (hin : ∀ w ∈ u_ws C T N, w ∈ lw_all) (hc : Cl[ci]? = some (C, T, N)) (kf : Nat) (hk : kf < N) (w : Cond.fieldLink own index ref (T kf).2.1 (T kf).2.2.1 ∈ lw_all) (hsame : ∀ x, (mS M).fieldFound? (T kf).1 (T kf).2.1 (T kf).2.2.1 = some x → (mS M).fieldFound? ref (T kf).2.1 (T kf).2.2.1 = some x) (d : decode cc pc = .ok (.getfield index, 3))
    {a : Nat} {K : Value → Prop} (hw : gV Γ h a ci kf K) (kk : ∀ v, K v → AW Γ M h k (pc + 3) L (v :: st)) : AW Γ M h k pc L (.ref a :: st) := by
  obtain ⟨fs, v, ha, hv, hK⟩ := gV_inv hw
  intro H locs cells slots ls h1 h2 h3 h4 h5
  obtain ⟨cell, q1, q2, q3, q4, q5⟩ := obj_rd F.2.2.2.2.2.1 h1 h2 hc ha
  obtain ⟨hS, hfc, kC, hkC, hkind⟩ := F.2.2.2.2.2.1.1.1 ci _ hc
  obtain ⟨cf, kf', fi, f, hi, hsl⟩ := hS kf hk
  exact W.getf F.1 F.2.1 F.2.2.2.1 (F.2.2.2.2.1 _ w) (hsame _ hi) (u_facts hfc hkC (u_lays F.2.2.2.2.1 hin hk) hi).1 q1 q3 (v := v) (by rw [hsl]; exact q5 kf v hk hv) rfl rfl d (aw_k (kk v hK) h1 h2 h3 h4 h5)

theorem r_gfN {ref C host : String} {T : u_T} {N ci index : Nat} (F : FX Γ M cc own) (hin : ∀ w ∈ u_ws C T N, w ∈ lw_all) (hc : Cl[ci]? = some (C, T, N)) (kf : Nat) (hk : kf < N) (w : Cond.fieldLinkNest own index ref (T kf).2.1 (T kf).2.2.1 host ∈ lw_tbl) (hsame : ∀ x, (mS M).fieldFound? (T kf).1 (T kf).2.1 (T kf).2.2.1 = some x → (mS M).fieldFound? ref (T kf).2.1 (T kf).2.2.1 = some x) (d : decode cc pc = .ok (.getfield index, 3))
    {a : Nat} {K : Value → Prop} (hw : gV Γ h a ci kf K) (kk : ∀ v, K v → AW Γ M h k (pc + 3) L (v :: st)) : AW Γ M h k pc L (.ref a :: st) := by
  obtain ⟨fs, v, ha, hv, hK⟩ := gV_inv hw
  intro H locs cells slots ls h1 h2 h3 h4 h5
  obtain ⟨cell, q1, q2, q3, q4, q5⟩ := obj_rd F.2.2.2.2.2.1 h1 h2 hc ha
  obtain ⟨hS, hfc, kC, hkC, hkind⟩ := F.2.2.2.2.2.1.1.1 ci _ hc
  obtain ⟨cf, kf', fi, f, hi, hsl⟩ := hS kf hk
  have hw1 : (Cond.fieldLinkNest own index ref (T kf).2.1 (T kf).2.2.1 host).before (mA M) (mS M) = true := va_Nw.use rfl (show va_Nw _ (mS M) from F.2.2.2.2.2.1.2.2.2.2.1 _ w rfl)
  exact va_Wgetf F.1 F.2.1 F.2.2.2.1 hw1 (hsame _ hi) (u_facts hfc hkC (u_lays F.2.2.2.2.1 hin hk) hi).1 q1 q3 (v := v) (by rw [hsl]; exact q5 kf v hk hv) rfl rfl d (aw_k (kk v hK) h1 h2 h3 h4 h5)

theorem s_put {H H1 : Heap} {locs : List Loc} {a q : Nat} (hS : va_S (fun q => cxB Γ ≤ q) (mS M).heap H locs) (e2 : H1.size = H.size) (e3 : ∀ b : Nat, b ≠ a → H1[b]? = H[b]?) (hB : cxB Γ ≤ a) : va_S (fun q => cxB Γ ≤ q) (mS M).heap H1 (locs ++ [⟨a, q⟩]) := hS.put e2 e3 hB
/-- a field is written -/
theorem r_pf {ref C : String} {T : u_T} {N ci index : Nat} (F : FX Γ M cc own) (hin : ∀ w ∈ u_ws C T N, w ∈ lw_all) {ty0 : Nat → FieldType} (hty : ∀ k, k < N → parseFieldDescriptor (T k).2.2.1 = some (ty0 k)) (hnm : ∀ a, a < N → ∀ b, b < N → a ≠ b → (T a).2.1 ≠ (T b).2.1) (hc : Cl[ci]? = some (C, T, N)) (kf : Nat) (hk : kf < N) (w : Cond.fieldLink own index ref (T kf).2.1 (T kf).2.2.1 ∈ lw_all) (hsame : ∀ x, (mS M).fieldFound? (T kf).1 (T kf).2.1 (T kf).2.2.1 = some x → (mS M).fieldFound? ref (T kf).2.1 (T kf).2.2.1 = some x) (hfin : (T kf).2.2.2 = false) (d : decode cc pc = .ok (.putfield index, 3))
    {a : Nat} {v : Value} {K : Hp → Prop} (hn : narrow (ty0 kf) v = v) (hfit : fits (ty0 kf) v = true) (hw : pV h a ci kf v K) (kk : ∀ h', K h' → AW Γ M h' k (pc + 3) L st) : AW Γ M h k pc L (v :: .ref a :: st) := by
  obtain ⟨fs, ha, hl, hK⟩ := pV_inv hw
  intro H locs cells slots ls h1 h2 h3 h4 h5
  obtain ⟨hB, hat⟩ := h1 a _ ha
  have hK1 := F.2.2.2.2.2.1.1
  have hap := va_apart (own := own) F.2.2.2.2.1 hin ty0 hty hnm hK1 hc
  obtain ⟨r, g1, cell, q1, q2, q3, q4⟩ := hat
  have hr : r = (C, T, N) := Option.some.inj (g1.symm.trans hc)
  subst hr
  obtain ⟨hS, hfc, kC, hkC, hkind⟩ := hK1.1 ci _ hc
  obtain ⟨cf, kf', fi, f, hi, hsl⟩ := hS kf hk
  have hlay := F.2.2.2.2.1 _ (hin _ (u_in_lay hk))
  unfold u_lay at hlay
  rw [if_neg (by rw [hfin]; decide)] at hlay
  have hst := (u_facts hfc hkC (u_lays F.2.2.2.2.1 hin hk) hi).1
  have h6 := u_store hfc hkC hkind hlay hi (hty kf hk) hn hfit
  refine W.putK F.1 F.2.1 (f := f) ⟨F.2.2.2.1, F.2.2.2.2.1 _ w, ⟨_, _, _, hsame _ hi⟩, hst⟩ (by rw [q2]; exact h6) q1 q3 (by rw [hsl]; exact k2_hasslot (q4 kf hk)) rfl rfl d fun H' e1 e2 e3 => ?_
  rw [hsl] at e1 ⊢
  refine aw_k (kk _ hK) (h1.up hB ⟨_, hc, t_OB.to (V := updV (vp_V fs) kf v) ⟨_, e1, q2, q3, t_set q4 hap hk v⟩ (fun j _ => vp_updV_set hl v j)⟩ (fun b hb _ => e3 b hb)) (s_put h2 e2 e3 hB) h3 h4 h5
/-- a final field, in a constructor of its class -/
theorem r_pfF {ref C : String} {T : u_T} {N ci index : Nat} (F : FX Γ M cc own) (hin : ∀ w ∈ u_ws C T N, w ∈ lw_all) {ty0 : Nat → FieldType} (hty : ∀ k, k < N → parseFieldDescriptor (T k).2.2.1 = some (ty0 k)) (hnm : ∀ a, a < N → ∀ b, b < N → a ≠ b → (T a).2.1 ≠ (T b).2.1) (hc : Cl[ci]? = some (C, T, N)) (kf : Nat) (hk : kf < N) (w : Cond.fieldLink own index ref (T kf).2.1 (T kf).2.2.1 ∈ lw_all) (hsame : ∀ x, (mS M).fieldFound? (T kf).1 (T kf).2.1 (T kf).2.2.1 = some x → (mS M).fieldFound? ref (T kf).2.1 (T kf).2.2.1 = some x) (hfin : (T kf).2.2.2 = true) (hin2 : (mMe M).name = "<init>") (hdecl : (T kf).1 = own) (d : decode cc pc = .ok (.putfield index, 3))
    {a : Nat} {v : Value} {K : Hp → Prop} (hn : narrow (ty0 kf) v = v) (hfit : fits (ty0 kf) v = true) (hw : pV h a ci kf v K) (kk : ∀ h', K h' → AW Γ M h' k (pc + 3) L st) : AW Γ M h k pc L (v :: .ref a :: st) := by
  obtain ⟨fs, ha, hl, hK⟩ := pV_inv hw
  intro H locs cells slots ls h1 h2 h3 h4 h5
  obtain ⟨hB, hat⟩ := h1 a _ ha
  have hK1 := F.2.2.2.2.2.1.1
  have hown := F.2.2.2.1
  have hap := va_apart (own := own) F.2.2.2.2.1 hin ty0 hty hnm hK1 hc
  obtain ⟨r, g1, cell, q1, q2, q3, q4⟩ := hat
  have hr : r = (C, T, N) := Option.some.inj (g1.symm.trans hc)
  subst hr
  obtain ⟨hS, hfc, kC, hkC, hkind⟩ := hK1.1 ci _ hc
  obtain ⟨cf, kf', fi, f, hi, hsl⟩ := hS kf hk
  have hlay := F.2.2.2.2.1 _ (hin _ (u_in_lay hk))
  unfold u_lay at hlay
  rw [if_pos hfin] at hlay
  have hst := (u_facts hfc hkC (u_lays F.2.2.2.2.1 hin hk) hi).1
  have hcf : (mM M).cls = cf := by
    obtain ⟨_, _, c', _, _, _, -, -, hf', -, -, -, hown2, -⟩ := Cond.laysFinal_spec hlay
    have e1 : c' = cf := by have := hi.symm.trans hf'; simp at this; exact this.1.symm
    rw [hdecl] at hown2
    rw [← e1]; exact Option.some.inj (hown.symm.trans hown2)
  have h6 := u_fits hfc hkC hkind (Or.inr hlay) hi (hty kf hk) hn hfit
  refine W.putFinK F.1 F.2.1 hown (F.2.2.2.2.1 _ w) (hsame _ hi) hst hcf hin2 (by rw [q2]; exact h6) q1 q3 (by rw [hsl]; exact k2_hasslot (q4 kf hk)) rfl rfl d fun H' e1 e2 e3 => ?_
  rw [hsl] at e1 ⊢
  refine aw_k (kk _ hK) (h1.up hB ⟨_, hc, t_OB.to (V := updV (vp_V fs) kf v) ⟨_, e1, q2, q3, t_set q4 hap hk v⟩ (fun j _ => vp_updV_set hl v j)⟩ (fun b hb _ => e3 b hb)) (s_put h2 e2 e3 hB) h3 h4 h5
/-- array reads -/
theorem r_iald (F : FX Γ M cc own) (d : decode cc pc = .ok (.iaload, 1)) {a : Nat} {i : Int32} {K : Int32 → Prop} (hw : aI Γ h a 0 i K) (kk : ∀ x, K x → AW Γ M h k (pc + 1) L (.int x :: st)) : AW Γ M h k pc L (.int i :: .ref a :: st) := by
  obtain ⟨n, f, ha, hi, hK⟩ := aI_inv hw
  intro H locs cells slots ls h1 h2 h3 h4 h5
  obtain ⟨cell, q1, q2, q3, q4, q5, q6⟩ := arr_rd (t := 0) F.2.2.2.2.2.1 h1 h2 rfl ha
  have hlt : i.toNatClampNeg < n := Nat.not_le.mp fun q => hi (Or.inr q)
  exact W.iald F.1 F.2.1 q1 q2 q3 (fun q => hi (q.elim Or.inl (fun q => absurd q (by omega)))) (q6 _ hlt) rfl rfl d (aw_k (kk _ hK) h1 h2 h3 h4 h5)

theorem r_bald (F : FX Γ M cc own) (d : decode cc pc = .ok (.baload, 1)) {a : Nat} {i : Int32} {K : Int32 → Prop} (hw : aI Γ h a 1 i K) (kk : ∀ x, K x → AW Γ M h k (pc + 1) L (.int x :: st)) : AW Γ M h k pc L (.int i :: .ref a :: st) := by
  obtain ⟨n, f, ha, hi, hK⟩ := aI_inv hw
  intro H locs cells slots ls h1 h2 h3 h4 h5
  obtain ⟨cell, q1, q2, q3, q4, q5, q6⟩ := arr_rd (t := 1) F.2.2.2.2.2.1 h1 h2 rfl ha
  have hlt : i.toNatClampNeg < n := Nat.not_le.mp fun q => hi (Or.inr q)
  exact W.bald F.1 F.2.1 q1 q2 q3 (fun q => hi (q.elim Or.inl (fun q => absurd q (by omega)))) (q6 _ hlt) rfl rfl d (aw_k (kk _ hK) h1 h2 h3 h4 h5)

theorem r_zald (F : FX Γ M cc own) (d : decode cc pc = .ok (.baload, 1)) {a : Nat} {i : Int32} {K : Int32 → Prop} (hw : aI Γ h a 3 i K) (kk : ∀ x, K x → AW Γ M h k (pc + 1) L (.int x :: st)) : AW Γ M h k pc L (.int i :: .ref a :: st) := by
  obtain ⟨n, f, ha, hi, hK⟩ := aI_inv hw
  intro H locs cells slots ls h1 h2 h3 h4 h5
  obtain ⟨cell, q1, q2, q3, q4, q5, q6⟩ := arr_rd (t := 3) F.2.2.2.2.2.1 h1 h2 rfl ha
  have hlt : i.toNatClampNeg < n := Nat.not_le.mp fun q => hi (Or.inr q)
  exact W.zald F.1 F.2.1 q1 q2 q3 (fun q => hi (q.elim Or.inl (fun q => absurd q (by omega)))) (q6 _ hlt) rfl rfl d (aw_k (kk _ hK) h1 h2 h3 h4 h5)

theorem r_lald (F : FX Γ M cc own) (d : decode cc pc = .ok (.laload, 1)) {a : Nat} {i : Int32} {K : Int64 → Prop} (hw : aJ Γ h a i K) (kk : ∀ x, K x → AW Γ M h k (pc + 1) L (.long x :: st)) : AW Γ M h k pc L (.int i :: .ref a :: st) := by
  obtain ⟨n, f, ha, hi, hK⟩ := aJ_inv hw
  intro H locs cells slots ls h1 h2 h3 h4 h5
  obtain ⟨cell, q1, q2, q3, q4, q5, q6⟩ := arr_rd (t := 2) F.2.2.2.2.2.1 h1 h2 rfl ha
  have hlt : i.toNatClampNeg < n := Nat.not_le.mp fun q => hi (Or.inr q)
  exact W.lald F.1 F.2.1 q1 q2 q3 (fun q => hi (q.elim Or.inl (fun q => absurd q (by omega)))) (q6 _ hlt) rfl rfl d (aw_k (kk _ hK) h1 h2 h3 h4 h5)

theorem r_aald (F : FX Γ M cc own) (d : decode cc pc = .ok (.aaload, 1)) {a : Nat} {i : Int32} {K : Option Nat → Prop} (hw : aO Γ h a i K) (kk : ∀ x, K x → AW Γ M h k (pc + 1) L (va_rf x :: st)) : AW Γ M h k pc L (.int i :: .ref a :: st) := by
  obtain ⟨n, f, ha, hi, hK⟩ := aO_inv hw
  intro H locs cells slots ls h1 h2 h3 h4 h5
  obtain ⟨cell, q1, q2, q3, q4, q5, q6⟩ := arr_rd (t := 4) F.2.2.2.2.2.1 h1 h2 rfl ha
  have hlt : i.toNatClampNeg < n := Nat.not_le.mp fun q => hi (Or.inr q)
  exact W.aald F.1 F.2.1 q1 q2 rfl q3 (fun q => hi (q.elim Or.inl (fun q => absurd q (by omega)))) (q6 _ hlt) rfl rfl d (aw_k (kk _ hK) h1 h2 h3 h4 h5)

theorem r_alen (F : FX Γ M cc own) (d : decode cc pc = .ok (.arraylength, 1)) {a : Nat} {K : Int32 → Prop} (hw : aL Γ h a K) (kk : ∀ x, K x → AW Γ M h k (pc + 1) L (.int x :: st)) : AW Γ M h k pc L (.ref a :: st) := by
  obtain ⟨t, n, x, ht, ha, hK⟩ := aL_inv hw
  intro H locs cells slots ls h1 h2 h3 h4 h5
  have hty : ∃ ty, (cxT Γ)[t]? = some (cxA Γ t, ty) := by
    rcases (show t = 0 ∨ t = 1 ∨ t = 2 ∨ t = 3 ∨ t = 4 by omega) with rfl | rfl | rfl | rfl | rfl <;> exact ⟨_, rfl⟩
  obtain ⟨ty, hty⟩ := hty
  obtain ⟨cell, q1, q2, q3, q4, q5, q6⟩ := arr_rd (t := t) F.2.2.2.2.2.1 h1 h2 hty ha
  exact W.alen (n := nI n) F.1 F.2.1 q1 q2 q5 rfl rfl d (aw_k (kk _ hK) h1 h2 h3 h4 h5)

/-- array writes -/
theorem r_iast (F : FX Γ M cc own) (d : decode cc pc = .ok (.iastore, 1)) {a : Nat} {i x : Int32} {K : Hp → Prop} (hw : sI Γ h a 0 i x K) (kk : ∀ h', K h' → AW Γ M h' k (pc + 1) L st) : AW Γ M h k pc L (.int x :: .int i :: .ref a :: st) := by
  obtain ⟨n, f, ha, hin, hK⟩ := sI_inv hw
  intro H locs cells slots ls h1 h2 h3 h4 h5
  obtain ⟨hB, hat⟩ := h1 a _ ha
  refine W.iast F.1 F.2.1 hat ((F.2.2.2.2.2.1.1.2 0 _ rfl).1 n (fun j => .int (f j))) (fun q => by cases q) (by show ¬ (i < 0 ∨ (arrV _ _ _).slots.size ≤ _); rw [arrV_size]; exact hin) rfl rfl d fun H1 e z oq => ?_
  refine aw_k (kk _ hK) (h1.up hB ?_ (fun b hb _ => oq b hb)) (s_put h2 z oq hB) h3 h4 h5
  show H1[a]? = some (vp_cell _ _)
  rw [e]
  rw [vp_cell_i, vp_cell_i, arrV_store]
  congr 2
  funext q
  by_cases hq : q = i.toNatClampNeg
  · subst hq
    simp [updV, upd]
  · simp [updV, upd, hq]
theorem r_bast (F : FX Γ M cc own) (d : decode cc pc = .ok (.bastore, 1)) {a : Nat} {i x : Int32} {K : Hp → Prop} (hw : sI Γ h a 1 i (vp_nar .byte x) K) (kk : ∀ h', K h' → AW Γ M h' k (pc + 1) L st) : AW Γ M h k pc L (.int x :: .int i :: .ref a :: st) := by
  obtain ⟨n, f, ha, hin, hK⟩ := sI_inv hw
  intro H locs cells slots ls h1 h2 h3 h4 h5
  obtain ⟨hB, hat⟩ := h1 a _ ha
  refine W.bast F.1 F.2.1 hat ((F.2.2.2.2.2.1.1.2 1 _ rfl).1 n (fun j => .int (f j))) (fun q => by cases q) (by show ¬ (i < 0 ∨ (arrV _ _ _).slots.size ≤ _); rw [arrV_size]; exact hin) rfl rfl d fun H1 e z oq => ?_
  refine aw_k (kk _ hK) (h1.up hB ?_ (fun b hb _ => oq b hb)) (s_put h2 z oq hB) h3 h4 h5
  show H1[a]? = some (vp_cell _ _)
  rw [e]
  rw [vp_cell_i, vp_cell_i, arrV_store]
  congr 2
  funext q
  by_cases hq : q = i.toNatClampNeg
  · subst hq
    simp [updV, upd, vp_nar]
    try rfl
  · simp [updV, upd, hq]
theorem r_zast (F : FX Γ M cc own) (d : decode cc pc = .ok (.bastore, 1)) {a : Nat} {i x : Int32} {K : Hp → Prop} (hw : sI Γ h a 3 i (vp_nar .boolean x) K) (kk : ∀ h', K h' → AW Γ M h' k (pc + 1) L st) : AW Γ M h k pc L (.int x :: .int i :: .ref a :: st) := by
  obtain ⟨n, f, ha, hin, hK⟩ := sI_inv hw
  intro H locs cells slots ls h1 h2 h3 h4 h5
  obtain ⟨hB, hat⟩ := h1 a _ ha
  refine W.zast F.1 F.2.1 hat ((F.2.2.2.2.2.1.1.2 3 _ rfl).1 n (fun j => .int (f j))) (fun q => by cases q) (by show ¬ (i < 0 ∨ (arrV _ _ _).slots.size ≤ _); rw [arrV_size]; exact hin) rfl rfl d fun H1 e z oq => ?_
  refine aw_k (kk _ hK) (h1.up hB ?_ (fun b hb _ => oq b hb)) (s_put h2 z oq hB) h3 h4 h5
  show H1[a]? = some (vp_cell _ _)
  rw [e]
  rw [vp_cell_i, vp_cell_i, arrV_store]
  congr 2
  funext q
  by_cases hq : q = i.toNatClampNeg
  · subst hq
    simp [updV, upd, vp_nar]
    try rfl
  · simp [updV, upd, hq]
theorem r_last (F : FX Γ M cc own) (d : decode cc pc = .ok (.lastore, 1)) {a : Nat} {i : Int32} {x : Int64} {K : Hp → Prop} (hw : sJ Γ h a i x K) (kk : ∀ h', K h' → AW Γ M h' k (pc + 1) L st) : AW Γ M h k pc L (.long x :: .int i :: .ref a :: st) := by
  obtain ⟨n, f, ha, hin, hK⟩ := sJ_inv hw
  intro H locs cells slots ls h1 h2 h3 h4 h5
  obtain ⟨hB, hat⟩ := h1 a _ ha
  refine W.last F.1 F.2.1 hat ((F.2.2.2.2.2.1.1.2 2 _ rfl).1 n (fun j => .long (f j))) (fun q => by cases q) (by show ¬ (i < 0 ∨ (arrV _ _ _).slots.size ≤ _); rw [arrV_size]; exact hin) rfl rfl d fun H1 e z oq => ?_
  refine aw_k (kk _ hK) (h1.up hB ?_ (fun b hb _ => oq b hb)) (s_put h2 z oq hB) h3 h4 h5
  show H1[a]? = some (vp_cell _ _)
  rw [e]
  rw [vp_cell_l, vp_cell_l, arrV_store]
  congr 2
  funext q
  by_cases hq : q = i.toNatClampNeg
  · subst hq
    simp [updV, vp_updL]
  · simp [updV, vp_updL, hq]
/-- a new object, a new array -/
theorem r_new {C : String} {T : u_T} {N ci index : Nat} (F : FX Γ M cc own) (hin : ∀ w ∈ u_ws C T N, w ∈ lw_all) {ty : Nat → FieldType} (hty : ∀ k, k < N → parseFieldDescriptor (T k).2.2.1 = some (ty k)) (hc : Cl[ci]? = some (C, T, N)) (w1 : Cond.classLink own index C ∈ lw_all) (w2 : Cond.instantiable C N ∈ lw_all) (w3 : Cond.initialized C ∈ lw_all) (d : decode cc pc = .ok (.new index, 3))
    {fs : List Value} {K : Nat → Hp → Nat → Prop} (hfs : ∀ j, j < N → defaultValue (ty j) = vp_V fs j) (hlen : fs.length = N) (hw : nO Γ h k ci fs K) (kk : ∀ a h' k', K a h' k' → AW Γ M h' k' (pc + 3) L (.ref a :: st)) : AW Γ M h k pc L st := by
  intro H locs cells slots ls h1 h2 h3 h4 h5
  obtain ⟨hk, hw⟩ := hw
  have hKn := F.2.2.2.2.2.1.1.1 ci _ hc
  have hBH : cxB Γ ≤ H.size := Nat.le_trans F.2.2.2.2.2.1.2.1 h2.1
  refine W.newcK F.1 F.2.1 F.2.2.2.1 (F.2.2.2.2.1 _ w1) (F.2.2.2.2.1 _ w2) (F.2.2.2.2.1 _ w3) rfl d (by show cells + 1 ≤ mU M; omega) (by show slots + N ≤ mU M; omega) hKn.2.1 rfl fun H1 kC hkC e1 z1 o1 => ?_
  refine aw_k (kk H.size _ _ (hw H.size h1.fresh hBH)) (h1.up hBH ⟨_, hc, (u_born ty F.2.2.2.2.1 hin hKn hkC e1 hty).to hfs⟩ (fun b _ hb => o1 b hb)) ⟨Nat.le_trans h2.1 (by omega), fun x g1 g2 => (o1 x (Nat.lt_of_lt_of_le g1 h2.1)).trans (h2.2.1 x g1 g2), h2.2.2⟩ (by omega) (by omega) h5
theorem r_newa {atype : ArrayType} {t : Nat} {ty : FieldType} (F : FX Γ M cc own) (w : Cond.arrayClass (newarray.typeOf atype) ∈ lw_all) (hty : newarray.typeOf atype = ty) (ht : (cxT Γ)[t]? = some (cxA Γ t, ty)) (hpr : refKind ty = false) {z : Nat → vp_A} (hz : ∀ (cA : ClassId) (n : Nat), vp_cell cA (z n) = arrV cA n (fun _ => defaultValue ty)) (hby : componentBytes ty ≤ 8) (d : decode cc pc = .ok (.newarray atype, 2))
    {i : Int32} {K : Nat → Hp → Nat → Prop} (hw : nA Γ h k t z i K) (kk : ∀ a h' k', K a h' k' → AW Γ M h' k' (pc + 2) L (.ref a :: st)) : AW Γ M h k pc L (.int i :: st) := by
  intro H locs cells slots ls h1 h2 h3 h4 h5
  subst hty
  obtain ⟨n, rfl, hlt, hk, hw⟩ := hw
  have hBH : cxB Γ ≤ H.size := Nat.le_trans F.2.2.2.2.2.1.2.1 h2.1
  refine va_newaK (N := n) F.1 F.2.1 (F.2.2.2.2.1 _ w) rfl d rfl (nI_pos (by omega)) (nI_clamp (by omega)) (by have := Nat.mul_le_mul_left n hby; omega) (by show cells + 1 ≤ mU M; omega) (by show slots + n ≤ mU M; omega) rfl fun H1 cA e1 z1 o1 hAr hNm => ?_
  have hcA : cA = cxA Γ t := by
    have h7 := (F.2.2.2.2.2.1.1.2 t _ ht).2
    cases atype <;> first | exact Option.some.inj (hNm.symm.trans h7) | cases hpr
  subst hcA
  refine aw_k (kk H.size _ _ (hw H.size h1.fresh hBH)) (h1.up hBH (by show H1[H.size]? = some (vp_cell _ _); rw [hz]; exact e1) (fun b _ hb => o1 b hb)) ⟨Nat.le_trans h2.1 (by omega), fun x g1 g2 => (o1 x (Nat.lt_of_lt_of_le g1 h2.1)).trans (h2.2.1 x g1 g2), h2.2.2⟩ (by omega) (by omega) h5
theorem r_objInit {idx : Nat} (F : FX Γ M cc own) (w1 : Cond.methodLink own idx Lib.objectInit ∈ lw_all) (w2 : Cond.instanceMethod Lib.objectInit ∈ lw_all) (w3 : Cond.code Lib.objectInit ⟨#[0xb1]⟩ 1 none ∈ lw_all) {dd : Nat} (hD : mD M = dd) (hd : 1 ≤ dd) (d : decode cc pc = .ok (.invokespecial idx, 3)) {a : Nat} (hst : (st.map fun v => v.category).sum ≤ 8) (kk : AW Γ M h k (pc + 3) L st) : AW Γ M h k pc L (.ref a :: st) := by
  intro H locs cells slots ls h1 h2 h3 h4 h5
  refine W.objInit F.1 F.2.1 F.2.2.2.1 (F.2.2.2.2.1 _ w1) (F.2.2.2.2.1 _ w2) (F.2.2.2.2.1 _ w3) rfl (by show ls.size = _; rw [F.2.2.1]; exact h5.1) rfl d (hD ▸ hd) (by
    show 2 * (F0 (mM M) pc ls _).monitorRoom + _ + 12 ≤ 64 * mD M
    have h0 : (F0 (mM M) pc ls (.ref a :: st)).monitorRoom = 0 := rfl
    rw [h0]
    have hd' : 1 ≤ mD M := hD ▸ hd
    omega) ?_
  exact aw_k kk h1 h2 h3 h4 h5
/-- returns -/
theorem r_iret {P : Option Value → Hp → Prop} (F : FX Γ M cc own) (r : RT Γ M (some .int) P) (d : decode cc pc = .ok (.ireturn, 1)) {v : Int32} (hp : P (some (.int v)) h) : AW Γ M h k pc L [.int v] := by
  intro H locs cells slots ls h1 h2 h3 h4 h5
  obtain ⟨r1, r2⟩ := r
  unfold WM
  rw [r2]
  refine W.widen (k := mU M) (n := mU M) (by omega) (by omega) ?_
  exact W.iret F.1 F.2.1 r1 (fun t ht hW => ⟨⟨_, h, rfl, hp, by rw [ht]; exact h1⟩, h2.F ht⟩) h2.2.2 d F.2.2.2.2.2.2
theorem r_zret {P : Option Value → Hp → Prop} {ty : FieldType} (F : FX Γ M cc own) (r : RT Γ M (some ty) P) (d : decode cc pc = .ok (.ireturn, 1)) {v : Int32} (hn : narrow ty (.int v) = .int v) (hp : P (some (.int v)) h) : AW Γ M h k pc L [.int v] := by
  intro H locs cells slots ls h1 h2 h3 h4 h5
  obtain ⟨r1, r2⟩ := r
  unfold WM
  rw [r2]
  refine W.widen (k := mU M) (n := mU M) (by omega) (by omega) ?_
  exact W.zret F.1 F.2.1 r1 hn (fun t ht hW => ⟨⟨_, h, rfl, hp, by rw [ht]; exact h1⟩, h2.F ht⟩) h2.2.2 d F.2.2.2.2.2.2
theorem r_lret {P : Option Value → Hp → Prop} (F : FX Γ M cc own) (r : RT Γ M (some .long) P) (d : decode cc pc = .ok (.lreturn, 1)) {v : Int64} (hp : P (some (.long v)) h) : AW Γ M h k pc L [.long v] := by
  intro H locs cells slots ls h1 h2 h3 h4 h5
  obtain ⟨r1, r2⟩ := r
  unfold WM
  rw [r2]
  refine W.widen (k := mU M) (n := mU M) (by omega) (by omega) ?_
  exact W.lret F.1 F.2.1 r1 (fun t ht hW => ⟨⟨_, h, rfl, hp, by rw [ht]; exact h1⟩, h2.F ht⟩) h2.2.2 d F.2.2.2.2.2.2
theorem r_vret {P : Option Value → Hp → Prop} (F : FX Γ M cc own) (r : RT Γ M none P) (d : decode cc pc = .ok (.return_, 1)) (hp : P none h) : AW Γ M h k pc L [] := by
  intro H locs cells slots ls h1 h2 h3 h4 h5
  obtain ⟨r1, r2⟩ := r
  unfold WM
  rw [r2]
  refine W.widen (k := mU M) (n := mU M) (by omega) (by omega) ?_
  exact W.vret F.1 F.2.1 r1 (fun t ht hW => ⟨⟨_, h, rfl, hp, by rw [ht]; exact h1⟩, h2.F ht⟩) h2.2.2 d F.2.2.2.2.2.2
theorem r_aret {P : Option Value → Hp → Prop} {rt : FieldType} (F : FX Γ M cc own) (r : RT Γ M (some rt) P) (hrt : (∃ n, rt = .object n) ∨ ∃ t, rt = .array t) (d : decode cc pc = .ok (.areturn, 1)) {v : Value} (hv : v = .null ∨ ∃ a, v = .ref a) (hp : P (some v) h) : AW Γ M h k pc L [v] := by
  intro H locs cells slots ls h1 h2 h3 h4 h5
  obtain ⟨r1, r2⟩ := r
  unfold WM
  rw [r2]
  refine W.widen (k := mU M) (n := mU M) (by omega) (by omega) ?_
  exact W.aret F.1 F.2.1 r1 hrt hv (fun t ht hW => ⟨⟨_, h, rfl, hp, by rw [ht]; exact h1⟩, h2.F ht⟩) h2.2.2 d F.2.2.2.2.2.2
/-- calls: the run of a contract, whatever its kind -/
def CRun (Γ : Cx) (M : Mx) (h : Hp) (pc : Nat) (ls : Array Slot) (st0 st : List Value) (P : Option Value → Hp → Prop) (H : Heap) (locs : List Loc) (cells slots u : Nat) (len : Nat) : Prop :=
  ∀ T : State, T.heap = H → Stand (mP M) Γ.1 (mE M) (rmm (mD M) (mU M)) (mS M) (mM M) (mA M) (mF M) (mMe M) (mC M) T locs cells slots → ∃ (v : Option Value) (st₀ t T' : State) (Ls : List Loc), st₀.heap = H ∧ Stand (mP M) Γ.1 (mE M) (rmm (mD M) (mU M)) (mS M) (mM M) (mA M) (mF M) (mMe M) (mC M) T' (locs ++ Ls) (cells + u) (slots + u) ∧ (∀ q ∈ Ls, cxB Γ ≤ q.base) ∧ T'.heap = t.heap ∧ QcOf Γ P #[] st₀ (.returned v) t ∧
    Goes (mP M) (mE M) (mF M) T (F0 (mM M) pc ls st0) T' (F0 (mM M) (pc + len) ls (v.toList ++ st))
theorem r_call {st0 : List Value} {u len : Nat} {P : Option Value → Hp → Prop} {k' : Nat} (hu : k' + u ≤ k) (run : ∀ (H : Heap) (locs : List Loc) (cells slots : Nat) (ls : Array Slot), Rep Γ h H → va_S (fun q => cxB Γ ≤ q) (mS M).heap H locs → cells + u ≤ mU M → slots + u ≤ mU M → lv_has ls (mN M) L → CRun Γ M h pc ls st0 st P H locs cells slots u len)
    (kk : ∀ v h', P v h' → AW Γ M h' k' (pc + len) L (v.toList ++ st)) : AW Γ M h k pc L st0 := by
  intro H locs cells slots ls h1 h2 h3 h4 h5 T hT X
  obtain ⟨v, st₀, t, T', Ls, e0, X', hL, e1, ⟨⟨v', h', hv, hp, hr⟩, hz, hkp⟩, go⟩ := run H locs cells slots ls h1 h2 (by omega) (by omega) h5 T hT X
  cases hv
  rw [e0] at hz hkp
  obtain ⟨t2, a1, b1⟩ := aw_k (kk v h' hp) (locs := locs ++ Ls) (by rw [e1]; exact hr) ⟨Nat.le_trans h2.1 (by rw [e1]; exact hz), fun q g1 g2 => by rw [e1, hkp q (Nat.lt_of_lt_of_le g1 h2.1) g2]; exact h2.2.1 q g1 g2, fun q hq => by
      rcases List.mem_append.mp hq with g | g
      · exact h2.2.2 q g
      · exact hL q g⟩ (cells := cells + u) (slots := slots + u) (by omega) (by omega) h5 T' rfl X'
  exact ⟨t2, go t2 a1, b1⟩
theorem run_of {H : Heap} {locs : List Loc} {cells slots u pc : Nat} {ls : Array Slot} {st0 st : List Value} {av : List Value} {P : Option Value → Hp → Prop} (hr : va_Run (mP M) Γ.1 (mE M) (rmm (mD M) (mU M)) (mS M) (mM M) (mA M) (mF M) (mMe M) (mC M) H locs cells slots u u (F0 (mM M) pc ls st0) st (QcOf Γ P av.toArray) (fun q => cxB Γ ≤ q)) : CRun Γ M h pc ls st0 st P H locs cells slots u 3 := by
  intro T hT X
  obtain ⟨v, st₀, t, T', Ls, e0, X', hL, e1, e2, hq, go⟩ := hr T hT X
  exact ⟨v, st₀, t, T', Ls, e0, X', hL, e1, hq, go⟩
theorem room_le {d' maxL : Nat} (hd : d' + 1 ≤ mD M) (hm : maxL ≤ 44) (u u' : Nat) : (rmm d' u).frames + 1 ≤ (rmm (mD M) u').frames ∧ 8 + (maxL + 11) + (rmm d' u).locals ≤ (rmm (mD M) u').locals := by
  refine ⟨hd, ?_⟩
  show 8 + (maxL + 11) + 64 * d' ≤ 64 * mD M
  omega
theorem recv_at {H : Heap} {locs : List Loc} {a ci : Nat} {fs : List Value} {q : vw_C} (F : FX Γ M cc own) (h1 : Rep Γ h H) (h2 : va_S (fun q => cxB Γ ≤ q) (mS M).heap H locs) (hc : Cl[ci]? = some q) (ha : look Γ h a = some (.inr (ci, fs))) : ∃ cell : Cell, H[a]? = some cell ∧ cell.vm.isStatics = false ∧ (mS M).vm.findClass q.1 = some cell.cls := by
  obtain ⟨C, T, N⟩ := q
  obtain ⟨cell, q1, q2, q3, q4, q5⟩ := obj_rd F.2.2.2.2.2.1 h1 h2 hc ha
  exact ⟨cell, q1, q2, q4⟩
/-- an object of a class of Cl -/
def isO (Γ : Cx) (h : Hp) (a ci : Nat) : Prop := ∃ fs, look Γ h a = some (.inr (ci, fs))
/-- invokevirtual, of a method of the receiver's own class -/
theorem r_callV {C : String} {T : u_T} {N ci d' u index : Nat} {y : MethodName} {bytes : ByteArray} {maxL : Nat} {ret : Option FieldType} {a : Nat} (As : List Value) {n : Nat} {P : Option Value → Hp → Prop} (F : FX Γ M cc own) (hc : Cl[ci]? = some (C, T, N)) (w1 : Cond.methodLink own index y ∈ lw_all) (w2 : Cond.instanceMethod y ∈ lw_all) (w3 : Cond.selects C y y ∈ lw_all) (w4 : Cond.initialized C ∈ lw_all) (w5 : Cond.code y bytes maxL ret ∈ lw_all)
    (hy : y.cls = C ∧ y.cls ≠ "java/lang/invoke/MethodHandle" ∧ y.cls ≠ "java/lang/invoke/VarHandle" ∧ (parseMethodDescriptor y.desc).map (fun d => d.parameters.length) = some n) {dd : Nat} (hD : mD M = dd) (hd : d' + 1 ≤ dd) (hm : maxL ≤ 44) (d : decode cc pc = .ok (.invokevirtual index, 3)) (hn : As.length = n) (hst : (st.map fun v => v.category).sum ≤ 8)
    (ho : isO Γ h a ci) (C0 : Con Γ d' u (y, bytes, maxL, ret) (.ref a :: As) h P) {k' : Nat} (hu : k' + u ≤ k) (kk : ∀ v h', P v h' → AW Γ M h' k' (pc + 3) L (v.toList ++ st)) {st0 : List Value} (hs0 : st0 = As.reverse ++ .ref a :: st) : AW Γ M h k pc L st0 := by
  obtain ⟨fs, ha⟩ := ho
  refine r_call hu (fun H locs cells slots ls h1 h2 h3 h4 h5 => run_of (av := .ref a :: As) ?_) kk
  exact va_runV ⟨F.1, F.2.1, F.2.2.1, F.2.2.2.1, F.2.2.2.2.1⟩ C0 (cwV n F.2.2.2.2.1 (lw_V w1 w2 w3 w4 w5) rfl rfl rfl hy (room_le (hD ▸ hd) hm _ _)) ⟨PcOf.blind, recv_at F h1 h2 hc ha, PcOf.at F.2.2.2.2.2.1 h1 h2⟩ rfl hn h5.1 hs0 (lv_room hst) d ⟨h3, h4⟩
theorem r_callS {d' u index : Nat} {y : MethodName} {bytes : ByteArray} {maxL : Nat} {ret : Option FieldType} (As : List Value) {n : Nat} {P : Option Value → Hp → Prop} (F : FX Γ M cc own) (w1 : Cond.methodLink own index y ∈ lw_all) (w2 : Cond.static y ∈ lw_all) (w3 : Cond.initialized y.cls ∈ lw_all) (w4 : Cond.code y bytes maxL ret ∈ lw_all)
    (hy : y.cls ≠ "java/lang/invoke/MethodHandle" ∧ y.cls ≠ "java/lang/invoke/VarHandle" ∧ (parseMethodDescriptor y.desc).map (fun d => d.parameters.length) = some n) {dd : Nat} (hD : mD M = dd) (hd : d' + 1 ≤ dd) (hm : maxL ≤ 44) (d : decode cc pc = .ok (.invokestatic index, 3)) (hn : As.length = n) (hst : (st.map fun v => v.category).sum ≤ 8)
    (C0 : Con Γ d' u (y, bytes, maxL, ret) As h P) {k' : Nat} (hu : k' + u ≤ k) (kk : ∀ v h', P v h' → AW Γ M h' k' (pc + 3) L (v.toList ++ st)) {st0 : List Value} (hs0 : st0 = As.reverse ++ st) : AW Γ M h k pc L st0 := by
  refine r_call hu (fun H locs cells slots ls h1 h2 h3 h4 h5 => run_of (av := As) ?_) kk
  exact va_runS ⟨F.1, F.2.1, F.2.2.1, F.2.2.2.1, F.2.2.2.2.1⟩ C0 (va_cwS n F.2.2.2.2.1 (lw_S w1 w2 w3 w4) rfl rfl rfl hy (room_le (hD ▸ hd) hm _ _)) ⟨PcOf.blind, PcOf.at F.2.2.2.2.2.1 h1 h2⟩ rfl hn h5.1 hs0 (lv_room hst) d ⟨h3, h4⟩
theorem r_callI {d' u index : Nat} {y : MethodName} {bytes : ByteArray} {maxL : Nat} {a : Nat} (As : List Value) {n : Nat} {P : Option Value → Hp → Prop} (F : FX Γ M cc own) (w1 : Cond.methodLink own index y ∈ lw_all) (w2 : Cond.instanceMethod y ∈ lw_all) (w3 : Cond.initialized y.cls ∈ lw_all) (w4 : Cond.code y bytes maxL none ∈ lw_all) (hy1 : y.name = "<init>")
    (hy : y.cls ≠ "java/lang/invoke/MethodHandle" ∧ y.cls ≠ "java/lang/invoke/VarHandle" ∧ (parseMethodDescriptor y.desc).map (fun d => d.parameters.length) = some n) {dd : Nat} (hD : mD M = dd) (hd : d' + 1 ≤ dd) (hm : maxL ≤ 44) (d : decode cc pc = .ok (.invokespecial index, 3)) (hn : As.length = n) (hst : (st.map fun v => v.category).sum ≤ 8)
    (C0 : Con Γ d' u (y, bytes, maxL, none) (.ref a :: As) h P) {k' : Nat} (hu : k' + u ≤ k) (kk : ∀ v h', P v h' → AW Γ M h' k' (pc + 3) L (v.toList ++ st)) {st0 : List Value} (hs0 : st0 = As.reverse ++ .ref a :: st) : AW Γ M h k pc L st0 := by
  refine r_call hu (fun H locs cells slots ls h1 h2 h3 h4 h5 => run_of (av := .ref a :: As) ?_) kk
  exact va_runI ⟨F.1, F.2.1, F.2.2.1, F.2.2.2.1, F.2.2.2.2.1⟩ C0 (cwI n F.2.2.2.2.1 (lw_meth w4) rfl rfl rfl (F.2.2.2.2.1 _ w3) (F.2.2.2.2.1 _ w1) (F.2.2.2.2.1 _ w2) hy1 hy (room_le (hD ▸ hd) hm _ _)) ⟨PcOf.blind, PcOf.at F.2.2.2.2.2.1 h1 h2⟩ rfl hn h5.1 hs0 (lv_room hst) d ⟨h3, h4⟩
end HROWS
