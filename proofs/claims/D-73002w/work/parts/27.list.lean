/-! rows of the list's growing: the class object of Object[], a cast to Object[], arraycopy of references -/
set_option maxRecDepth 100000
/-- an element that may lie in an array of Object -/
def okEl (S : mSh) (v : Value) : Bool := match v with
  | .null => true
  | .ref y => decide (0 < (S y).1 ∧ (S y).1 < 16)
  | _ => false
def cpO (S : mSh) (M : mMm) (a0 : Nat) (sp : Int32) (a : Nat) (dp n : Int32) : Option mMm :=
  if (S a0).1 = 107 ∧ (S a).1 = 107 ∧ (S a).2 ≠ 0 ∧ ¬ sp < 0 ∧ ¬ dp < 0 ∧ ¬ n < 0 ∧ sp.toNatClampNeg + n.toNatClampNeg ≤ (S a0).2 ∧ dp.toNatClampNeg + n.toNatClampNeg ≤ (S a).2 ∧ (List.range n.toNatClampNeg).all (fun j => okEl S (M a0 (sp.toNatClampNeg + j))) = true
  then some (mM1 M a (va_cpy (M a0) (M a) sp.toNatClampNeg dp.toNatClampNeg n.toNatClampNeg)) else none
theorem cpO_s {S : mSh} {M M1 : mMm} {a0 a : Nat} {sp dp n : Int32} (h : cpO S M a0 sp a dp n = some M1) : ((S a0).1 = 107 ∧ (S a).1 = 107 ∧ (S a).2 ≠ 0 ∧ ¬ sp < 0 ∧ ¬ dp < 0 ∧ ¬ n < 0 ∧ sp.toNatClampNeg + n.toNatClampNeg ≤ (S a0).2 ∧ dp.toNatClampNeg + n.toNatClampNeg ≤ (S a).2 ∧ ∀ j, j < n.toNatClampNeg → okEl S (M a0 (sp.toNatClampNeg + j)) = true) ∧ M1 = mM1 M a (va_cpy (M a0) (M a) sp.toNatClampNeg dp.toNatClampNeg n.toNatClampNeg) := by
  unfold cpO at h
  split at h
  · next hc =>
    cases h
    obtain ⟨h1, h2, h3, h4, h5, h6, h7, h8, h9⟩ := hc
    refine ⟨⟨h1, h2, h3, h4, h5, h6, h7, h8, fun j hj => ?_⟩, rfl⟩
    exact List.all_eq_true.mp h9 j (List.mem_range.mpr hj)
  · cases h
section MLIST
variable {p : Program} {l : Launch} {e : Env} {R : Room} {s : State} {m : MethodId} {args : Array Value} {below : List Frame} {meth : Method} {c : Code} {H : Heap} {locs : List Loc} {cells slots : Nat} {Q : State → Prop}
variable {cc : ByteArray} {nL pc : Nat} {ls : Array Slot} {rest : List Value} {D : va_G} {n0 : Nat} {P : mP} {S : mSh} {M M1 : mMm} {n : Nat} {own : String} {ret : Option FieldType} {V : Nat → Nat}
variable {index a : Nat}
theorem m_cls107 (X : mCx D n0 P p m c cc nL s args own meth ret) : s.vm.findClass "[Ljava/lang/Object;" = some (D.1 107) := by
  obtain ⟨kA, comp, g1, g2, g3, g4⟩ := (X.2.1.1.2 7 _ rfl).2
  exact g4
theorem m_ldcM (X : mCx D n0 P p m c cc nL s args own meth ret) (hV : mV V n0 P) (hlink : Cond.classLink own index "[Ljava/lang/Object;" ∈ lw_all) (hdg : decode cc pc = .ok (.ldc index, 2))
    (kk : W p l e R s m args below meth c H locs cells slots Q (F0 m (pc + 2) ls (.ref (V 1) :: rest))) : W p l e R s m args below meth c H locs cells slots Q (F0 m pc ls rest) :=
  va_ldcM X.1.1 X.1.2.1 X.1.2.2.2.1 (X.1.2.2.2.2 _ hlink) (mV_1 hV _ _ X.2.1.2.2.2.1) hdg kk
theorem m_getC (X : mCx D n0 P p m c cc nL s args own meth ret) (hp : mHp D n0 S M n s H locs) (hV : mV V n0 P) (hlink : Cond.methodLink own index ⟨"java/lang/Object", "getClass", "()Ljava/lang/Class;"⟩ ∈ lw_all) (hv : (S a).1 = 107) (hsz : ls.size = nL) (hf : 1 ≤ R.frames) (hlo : (rest.map fun v => v.category).sum + 14 ≤ R.locals) (hdg : decode cc pc = .ok (.invokevirtual index, 3))
    (kk : W p l e R s m args below meth c H locs cells slots Q (F0 m (pc + 3) ls (.ref (V 1) :: rest))) : W p l e R s m args below meth c H locs cells slots Q (F0 m pc ls (.ref a :: rest)) :=
  va_getC X.1.1 X.1.2.1 (by rw [X.1.2.2.1]; exact hsz.symm) X.1.2.2.2.1 (X.1.2.2.2.2 _ hlink) (va_Nw.use rfl (X.2.1.2.1 _ q2072 rfl)) (X.1.2.2.2.2 _ q2071) (X.1.2.2.2.2 _ q343) (X.1.2.2.2.2 _ q360) (mV_1 hV _ _ X.2.1.2.2.2.1)
    ⟨_, (hp.arr hv (by decide)).2, rfl, m_cls107 X⟩ hf hlo hdg kk
theorem m_castA (X : mCx D n0 P p m c cc nL s args own meth ret) (hp : mHp D n0 S M n s H locs) (hlink : Cond.classLink own index "[Ljava/lang/Object;" ∈ lw_all) (hv : (S a).1 = 107) (hdg : decode cc pc = .ok (.checkcast index, 3))
    (kk : W p l e R s m args below meth c H locs cells slots Q (F0 m (pc + 3) ls (.ref a :: rest))) : W p l e R s m args below meth c H locs cells slots Q (F0 m pc ls (.ref a :: rest)) := by
  intro T hT Z
  obtain ⟨vm', Z', st⟩ := Z.checkcastYes X.1.1 X.1.2.2.2.1 (X.1.2.2.2.2 _ hlink) (by rw [hT]; exact (hp.arr hv (by decide)).2) rfl (m_cls107 X) (va_asg _ _) (g := F0 m pc ls (.ref a :: rest)) rfl rfl (by rw [X.1.2.1]; exact hdg)
  obtain ⟨t, a1, b1⟩ := kk (T.setVm vm') hT Z'
  exact ⟨t, st t a1, b1⟩
theorem mnn (z : Int32) (hz : ¬ z < 0) : z.toInt = ((z.toNatClampNeg : Nat) : Int) := by
  have hz0 : (0 : Int) ≤ z.toInt := by
    have := Int32.not_lt.mp hz
    simpa using Int32.le_iff_toInt_le.mp this
  show z.toInt = ((z.toInt.toNat : Nat) : Int)
  omega
theorem m_copyO {a0 : Nat} {sp dp k : Int32} (X : mCx D n0 P p m c cc nL s args own meth ret) (hp : mHp D n0 S M n s H locs) (h : cpO S M a0 sp a dp k = some M1) (hlink : Cond.methodLink own index arraycopyName ∈ lw_all) (hnat : Cond.native arraycopyName ∈ lw_all) (hstat : Cond.static arraycopyName ∈ lw_all) (hini : Cond.initialized "java/lang/System" ∈ lw_all)
    (hsz : ls.size = nL) (hf : 1 ≤ R.frames) (hlo : (rest.map fun v => v.category).sum + (nativeFrameWords "java/lang/System" "arraycopy" 5 + 11) ≤ R.locals) (hdg : decode cc pc = .ok (.invokestatic index, 3))
    (kk : ∀ (H1 : Heap) (locs1 : List Loc), mHp D n0 S M1 n s H1 locs1 → W p l e R s m args below meth c H1 locs1 cells slots Q (F0 m (pc + 3) ls rest)) : W p l e R s m args below meth c H locs cells slots Q (F0 m pc ls (.int k :: .int dp :: .ref a :: .int sp :: .ref a0 :: rest)) := by
  obtain ⟨⟨t0, t1, hne, h1, h2, h3, h4, h5, hel⟩, hM⟩ := cpO_s h
  intro T hT Z
  subst hT
  obtain ⟨-, hc0⟩ := hp.arr t0 (by decide)
  obtain ⟨ha1, hc1⟩ := hp.arr t1 (by decide)
  have hA : n0 ≤ a := ha1.resolve_right hne
  obtain ⟨-, k0, hk0, cm0, hkk0⟩ := (X.2.1.1.2 7 _ rfl).1 (S a0).2 (M a0)
  obtain ⟨kA, comp, r1, r2, r3, r4⟩ := (X.2.1.1.2 7 _ rfl).2
  cases hk0.symm.trans r1
  cases hkk0.symm.trans r2
  have hts := X.1.2.2.2.2
  obtain ⟨vm', Z', step⟩ := Z.arraycopy X.1.1 X.1.2.2.2.1 (hts _ hlink) (hts _ hnat) (hts _ hstat) (hts _ hini) (src := a0) (dst := a) (cs := arrV (D.1 107) (S a0).2 (M a0)) (cd := arrV (D.1 107) (S a).2 (M a)) (srcPos := sp) (destPos := dp) (n := k) hc0 hc1
    (fun _ h => by cases h) (fun _ h => by cases h) (fun h => by cases h) (fun h => by cases h) r1 r1 r2 r2 rfl h1 h2 h3
    (by rw [mnn sp h1, mnn k h3, arrV_size]; omega)
    (by rw [mnn dp h2, mnn k h3, arrV_size]; omega)
    (fun vm₁ hal i hi => by
      have e : (arrV (D.1 107) (S a0).2 (M a0)).slots.getD (sp.toNatClampNeg + i) .null = M a0 (sp.toNatClampNeg + i) := by
        rw [Array.getD_eq_getD_getElem?, arrV_read _ _ (by omega)]
        rfl
      rw [e]
      have hy := hel i hi
      cases hv : M a0 (sp.toNatClampNeg + i) with
      | null => exact ⟨rfl, trivial⟩
      | ref y =>
        rw [hv] at hy
        have hy : 0 < (S y).1 ∧ (S y).1 < 16 := of_decide_eq_true hy
        obtain ⟨r, hr⟩ : ∃ r, mcl[(S y).1]? = some r := by
          have hl : (S y).1 < mcl.length := hy.2
          exact ⟨mcl[(S y).1], List.getElem?_eq_getElem hl⟩
        obtain ⟨-, cellV, g1, g2, g3, -⟩ := hp.obj (a := y) rfl ⟨by omega, by omega⟩ hr
        obtain ⟨hS, hfc, kC, hkC, hkind⟩ := X.2.1.1.1 _ _ hr
        obtain ⟨kE, hkE, -⟩ := Vm.findClass_spec r3
        obtain ⟨kC', hkC', -⟩ := hal.2.2 _ _ hkC
        obtain ⟨kE', hkE', -⟩ := hal.2.2 _ _ hkE
        refine ⟨rfl, cellV, g1, (fun q h => by rw [g3] at h; cases h), ⟨kC', by rw [g2]; exact hkC'⟩, ?_, ?_⟩
        · exact ⟨kE', hkE'⟩
        · show vm₁.assignable _ _ = true
          rw [hal.assignable, g2]
          exact vb_asgC (X.2.1.2.1 _ (ca_all hy.1 hy.2 hr) rfl) _ _ r3 hfc
      | int _ => rw [hv] at hy; cases hy
      | long _ => rw [hv] at hy; cases hy
      | float _ => rw [hv] at hy; cases hy
      | double _ => rw [hv] at hy; cases hy
      | _ => rw [hv] at hy; cases hy)
    (g := F0 m pc ls (.int k :: .int dp :: .ref a :: .int sp :: .ref a0 :: rest)) rfl (by rw [X.1.2.2.1]; exact hsz) (rest := rest) rfl (by rw [X.1.2.1]; exact hdg) hf (by show 2 * 0 + _ + _ ≤ _; omega)
  have e1 : copied (arrV (D.1 107) (S a0).2 (M a0)) (arrV (D.1 107) (S a).2 (M a)) sp dp k = arrV (D.1 107) (S a).2 (va_cpy (M a0) (M a) sp.toNatClampNeg dp.toNatClampNeg k.toNatClampNeg) := va_copied (fun z => z) (D.1 107) (D.1 107) (M a0) (M a) h4
  rw [e1] at Z' step
  have hl : a < T.heap.size := (Array.getElem?_eq_some_iff.mp hc1).1
  have oq : ∀ q : Nat, q ≠ a → (T.heap.setIfInBounds a (arrV (D.1 107) (S a).2 (va_cpy (M a0) (M a) sp.toNatClampNeg dp.toNatClampNeg k.toNatClampNeg)))[q]? = T.heap[q]? := fun q hq => by simp [Array.getElem?_setIfInBounds, Ne.symm hq]
  have hm : ∀ L2 : List Loc, (∀ q ∈ L2, n0 ≤ q.base) → mHp D n0 S M1 n s (T.heap.setIfInBounds a (arrV (D.1 107) (S a).2 (va_cpy (M a0) (M a) sp.toNatClampNeg dp.toNatClampNeg k.toNatClampNeg))) (locs ++ L2) := by
    intro L2 hL2
    refine ⟨⟨by rw [Array.size_setIfInBounds]; exact hp.1.1, hp.1.2.1, fun b hb => ⟨(hp.1.2.2 b hb).1, ?_⟩⟩, ⟨by rw [Array.size_setIfInBounds]; exact hp.2.1, fun q g1 g2 => by rw [oq q (fun e => g2 (by rw [e]; exact hA))]; exact hp.2.2.1 q g1 g2, fun q hq => ?_⟩⟩
    · by_cases e : b = a
      · rw [e]
        refine Or.inr ⟨by rw [t1]; decide, ?_⟩
        rw [hM, t1]
        simp only [mM1, if_true]
        simp [Array.getElem?_setIfInBounds, hl]
      · exact (hp.1.2.2 b hb).2.kept (oq b e) (by rw [hM]; simp [mM1, e])
    · rcases List.mem_append.mp hq with h | h
      · exact hp.2.2.2 q h
      · exact hL2 q h
  obtain ⟨t, a1, b1⟩ := kk _ _ (hm _ (fun q hq => by
    obtain ⟨z, -, hz⟩ := List.mem_map.mp hq
    rw [← hz]
    exact hA)) _ rfl Z'
  exact ⟨t, step t a1, b1⟩
end MLIST
theorem acw : nativeFrameWords "java/lang/System" "arraycopy" 5 + 11 ≤ 60 := by decide +kernel
