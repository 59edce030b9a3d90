/-! THE LAYER: one abstract memory for all methods. S: of an address the tag (a class's number in mcl, or 100 + the array type's place in mty) and the length;
M: of an address and a place the value; n: the heap's size. Tag 0: not ours. All of ours lie from n0 on, but empty arrays that were there before. -/
set_option maxRecDepth 100000
abbrev mSh : Type := Nat → Nat × Nat
abbrev mMm : Type := Nat → Nat → Value
abbrev mP : Type := State → Heap → Prop
/-- of a Fault only its own two fields are told -/
def TX7k : u_T := fun k => match k with
  | 0 => ("WindingSquare$Fault", "kind", "I", true)
  | _ => ("WindingSquare$Fault", "place", "I", true)
def tyX7k : Nat → FieldType := fun _ => .int
def mcl : List vw_C := [(RX3, TX3, 2), (RX0, TX0, 30), (RX1, TX1, 19), (RX2, TX2, 3), (RX3, TX3, 2), (RX4, TX4, 11), (RX5, TX5, 40), (RX6, TX6, 10), (RX7, TX7k, 2), (RX9, TX9, 1), (RX10, TX10, 1), (RX11, TX11, 3), (RX12, TX12, 1), (RX13, TX13, 3), (RX14, TX14, 2), (RJ2, TJ2, 3)]
def mty (D : va_G) : List (ClassId × FieldType) := [(D.1 100, .int), (D.1 101, .byte), (D.1 102, .boolean), (D.1 103, .long), (D.1 104, .object "WindingSquare$Walker"), (D.1 105, .object "WindingSquare$Rows"), (D.1 106, .object "WindingSquare$Square"), (D.1 107, .object "java/lang/Object"), (D.1 108, .array .int), (D.1 109, .array (.array .int))]
def mu2 (M : mMm) (a k : Nat) (v : Value) : mMm := fun b j => if b = a then (if j = k then v else M b j) else M b j
theorem mu2_s (M : mMm) (a k : Nat) (v : Value) : mu2 M a k v a k = v := by simp [mu2]
theorem mu2_k (M : mMm) {a b k j : Nat} (v : Value) (h : j ≠ k) : mu2 M a k v b j = M b j := by simp [mu2, h]
theorem mu2_a (M : mMm) {a b k j : Nat} (v : Value) (h : b ≠ a) : mu2 M a k v b j = M b j := by simp [mu2, h]
def mAt (D : va_G) (S : mSh) (M : mMm) (H : Heap) (a : Nat) : Prop :=
  ((S a).1 < 100 ∧ ∃ r : vw_C, mcl[(S a).1]? = some r ∧ t_OB a (D.1 (S a).1) r.2.2 (D.2 (S a).1) H (M a)) ∨ (100 ≤ (S a).1 ∧ H[a]? = some (arrV (D.1 (S a).1) (S a).2 (M a)))
def mWd (D : va_G) (n0 : Nat) (S : mSh) (M : mMm) (n : Nat) (H : Heap) : Prop := H.size = n ∧ n0 ≤ n ∧ ∀ a, (S a).1 ≠ 0 → (n0 ≤ a ∨ (100 ≤ (S a).1 ∧ (S a).2 = 0)) ∧ mAt D S M H a
def mA (n0 : Nat) : Nat → Prop := fun q => n0 ≤ q
theorem mAt.kept {D : va_G} {S S' : mSh} {M M' : mMm} {H H1 : Heap} {a : Nat} (h : mAt D S M H a) (hq : H1[a]? = H[a]?) (hM : M' a = M a) (hSS : S' a = S a := by rfl) : mAt D S' M' H1 a := by
  unfold mAt at h ⊢
  rw [hSS]
  rcases h with ⟨h1, r, h2, h3⟩ | ⟨h1, h2⟩
  · exact Or.inl ⟨h1, r, h2, by rw [hM]; exact h3.kept hq⟩
  · exact Or.inr ⟨h1, by rw [hM, hq]; exact h2⟩
theorem mAt.lt {D : va_G} {S : mSh} {M : mMm} {H : Heap} {a : Nat} (h : mAt D S M H a) : a < H.size := by
  rcases h with ⟨h1, r, h2, cell, h3, -⟩ | ⟨h1, h2⟩
  · exact (Array.getElem?_eq_some_iff.mp h3).1
  · exact (Array.getElem?_eq_some_iff.mp h2).1
/-- words of the tables that do not ride in lw_all, and hold all through a run -/
def okw (w : Cond) : Bool := match w with
  | .fieldLinkNest _ _ _ _ _ _ => true
  | .methodLinkNest _ _ _ _ => true
  | .declares _ => true
  | .castable _ _ => true
  | .arrayOver _ => true
  | _ => false
theorem okw_warm {w : Cond} (hw : okw w = true) {s U : State} (hW : s.WarmedH U.vm) (h : va_Nw w s) : va_Nw w U := by
  match w, hw with
  | .fieldLinkNest _ _ _ _ _ _, _ => exact va_Nw.warmF hW h
  | .methodLinkNest _ _ _ _, _ => exact va_Nw.warmM hW h
  | .declares _, _ => exact va_Nw.warmD hW h
  | .castable _ _, _ => exact va_Nw.warmC hW h
  | .arrayOver ty, _ =>
    have h2 : (Cond.arrayOver ty).before #[] (s.setVm U.vm) = true := by rw [Cond.arrayOver_setVmC hW.alike]; exact h
    exact h2
/-- the interface's method -/
def mFactX : MethodName := ⟨"WindingSquare$Asker", "fact", "(I)I"⟩
/-- what holds of the tables and of the old cells (below n0) all through; P: what a claim's start adds (strings, statics) -/
def mOld (D : va_G) (n0 : Nat) (P : mP) (U : State) (H : Heap) : Prop :=
  va_K D mcl (mty D) U ∧ (∀ w ∈ lw_tbl, okw w = true → va_Nw w U) ∧ n0 ≤ H.size ∧ P U H ∧ (∀ (U1 U2 : State) (H1 H2 : Heap), U1.WarmedH U2.vm → (∀ q, q < n0 → H2[q]? = H1[q]?) → P U1 H1 → P U2 H2) ∧ va_Fw "WindingSquare$Square" mFactX yX1_fact U
theorem mOld.move {D : va_G} {n0 : Nat} {P : mP} {s U : State} {H0 H : Heap} {locs : List Loc} (h : mOld D n0 P s H0) (hW : s.WarmedH U.vm) (hS : va_S (mA n0) H0 H locs) : mOld D n0 P U H := by
  obtain ⟨h1, h2, h3, h4, h5, h6⟩ := h
  refine ⟨va_K.moved hW.alike h1, fun w hw hk => okw_warm hk hW (h2 w hw hk), Nat.le_trans h3 hS.1, h5 s U H0 H hW (fun q hq => hS.2.1 q (Nat.lt_of_lt_of_le hq h3) (fun z => absurd (show n0 ≤ q from z) (by omega))) h4, h5, h6.moved (by decide) hW.alike⟩
def mHp (D : va_G) (n0 : Nat) (S : mSh) (M : mMm) (n : Nat) (s : State) (H : Heap) (locs : List Loc) : Prop := mWd D n0 S M n H ∧ va_S (mA n0) s.heap H locs
def mCx (D : va_G) (n0 : Nat) (P : mP) (p : Program) (m : MethodId) (c : Code) (cc : ByteArray) (nL : Nat) (s : State) (args : Array Value) (own : String) (meth : Method) (ret : Option FieldType) : Prop :=
  CallFix p m c cc nL s args lw_all own ∧ mOld D n0 P s s.heap ∧ meth.sig.returnType = ret ∧ meth.locks = false
def mQ (D : va_G) (n0 : Nat) (v : Option Value) (S : mSh) (M : mMm) (n : Nat) : Array Value → State → Outcome → State → Prop := fun _ st o t => o = .returned v ∧ mWd D n0 S M n t.heap ∧ va_F (mA n0) st t
def mPc (D : va_G) (n0 : Nat) (P : mP) (av : List Value) (S : mSh) (M : mMm) (n : Nat) : Array Value → State → Prop := fun a U => a = av.toArray ∧ mWd D n0 S M n U.heap ∧ mOld D n0 P U U.heap
/-- a contract: from the memory S M n with arguments av the method y returns v with the memory S' M' n' -/
def mCt (l : Launch) (D : va_G) (n0 : Nat) (P : mP) (y : MethodName) (b : ByteArray) (L : Nat) (ret : Option FieldType) (fr lo mc ms : Nat) (av : List Value) (S : mSh) (M : mMm) (n : Nat) (v : Option Value) (S' : mSh) (M' : mMm) (n' : Nat) : Prop :=
  Met l y (ws_ y b L ret) { frames := fr, cells := mc, slots := ms, locals := lo } (mPc D n0 P av S M n) (mQ D n0 v S' M' n') mc ms (mA n0)
theorem mPc.blind {D : va_G} {n0 : Nat} {P : mP} {av : List Value} {S : mSh} {M : mMm} {n : Nat} : FrameBlind (mPc D n0 P av S M n) := by
  intro a U g mk h
  obtain ⟨h1, h2, h3⟩ := h
  exact ⟨h1, h2, h3.move (U := U.calling g mk a) (State.WarmedH.refl U) (va_S.rf)⟩
theorem m_ofW {l : Launch} {D : va_G} {n0 : Nat} {P : mP} {y : MethodName} {b : ByteArray} {L : Nat} {ret : Option FieldType} {fr lo mc ms : Nat} {av : List Value} {S : mSh} {M : mMm} {n : Nat} {v : Option Value} {S' : mSh} {M' : mMm} {n' : Nat}
    (hy : plainName y.cls = true) (hL : (lg_sl av).length ≤ L)
    (body : ∀ (p : Program) (e : Env) (s : State) (m : MethodId) (below : List Frame) (meth : Method) (c : Code), mCx D n0 P p m c b L s av.toArray y.cls meth ret → meth.name = y.name → mHp D n0 S M n s s.heap [] → ∀ ls : Array Slot, lv_has ls L (lv_args 0 av) →
      W p l e { frames := fr, cells := mc, slots := ms, locals := lo } s m av.toArray below meth c s.heap [] 0 0 (MQ below (mQ D n0 v S' M' n') av.toArray s mc ms (mA n0)) (F0 m 0 ls [])) :
    mCt l D n0 P y b L ret fr lo mc ms av S M n v S' M' n' := by
  refine Met.ofW (cc := b) (maxL := L) (ret := ret) hy rfl ?_
  intro p e s m args below meth c s₁ B hml hv
  obtain ⟨rfl, hW, hO⟩ := hv
  have hts := atoms_spec (ws := ws_ y b L ret) B.pre
  have hts : ∀ w ∈ lw_all, w.before _ s = true := fun w h => hts w (List.mem_cons_of_mem _ h)
  have hl := lv_entry av (n := L) hL
  rw [lg_entry_eq]
  exact body p e s m below meth c ⟨⟨B.exec, B.bytes, hml, findClass_of_methodNamed B.named, hts⟩, hO, B.returns, B.notSynchronized⟩ (name_of_methodNamed B.named B.method).1 ⟨hW, va_S.rf⟩ _ hl
