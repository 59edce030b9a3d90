/-! fuel of loops; booleans fit -/
def FU : Nat := 1000000000000000
theorem FU_eq : FU = 1000000000000000 := rfl
theorem bz_01 {x : Int32} (h : x &&& 1 = x) : x = 0 ∨ x = 1 := by
  obtain ⟨n, hn, rfl⟩ : ∃ n : Nat, n < 2 ^ 32 ∧ x = nI n := ⟨x.toBitVec.toNat, x.toBitVec.isLt, by
    apply Int32.toBitVec_inj.mp
    show x.toBitVec = BitVec.ofNat 32 x.toBitVec.toNat
    simp⟩
  have e := pk_andN hn (m := 1) 1 (by decide)
  rw [h] at e
  have e1 : n = n % 2 ^ 1 := by
    have := congrArg (fun z : Int32 => z.toBitVec.toNat) e
    rw [pk_tn hn, pk_tn (by omega)] at this
    exact this
  have h2 : n = 0 ∨ n = 1 := by omega
  rcases h2 with rfl | rfl
  · exact Or.inl rfl
  · exact Or.inr rfl
theorem bz_fit {x : Int32} (h : x &&& 1 = x) : fits .boolean (.int x) = true := by
  rcases bz_01 h with rfl | rfl <;> rfl
/-- the same for a method of a class that has other methods overridden -/
theorem m_ofF {l : Launch} {D : va_G} {n0 : Nat} {P : mP} {y : MethodName} {b : ByteArray} {L : Nat} {ret : Option FieldType} {fr lo mc ms : Nat} {av : List Value} {S : mSh} {M : mMm} {n : Nat} {v : Option Value} {S' : mSh} {M' : mMm} {n' : Nat}
    (hy : plainFor y = true) (hL : (lg_sl av).length ≤ L)
    (body : ∀ (p : Program) (e : Env) (s : State) (m : MethodId) (below : List Frame) (meth : Method) (c : Code), mCx D n0 P p m c b L s av.toArray y.cls meth ret → meth.name = y.name → mHp D n0 S M n s s.heap [] → ∀ ls : Array Slot, lv_has ls L (lv_args 0 av) →
      W p l e { frames := fr, cells := mc, slots := ms, locals := lo } s m av.toArray below meth c s.heap [] 0 0 (MQ below (mQ D n0 v S' M' n') av.toArray s mc ms (mA n0)) (F0 m 0 ls [])) :
    mCt l D n0 P y b L ret fr lo mc ms av S M n v S' M' n' := by
  refine va_MetF (cc := b) (maxL := L) (ret := ret) hy rfl ?_
  intro p e s m args below meth c s₁ B hml hv
  obtain ⟨rfl, hW, hO⟩ := hv
  have hts := atoms_spec (ws := ws_ y b L ret) B.pre
  have hts : ∀ w ∈ lw_all, w.before _ s = true := fun w h => hts w (List.mem_cons_of_mem _ h)
  have hl := lv_entry av (n := L) hL
  rw [lg_entry_eq]
  exact body p e s m below meth c ⟨⟨B.exec, B.bytes, hml, findClass_of_methodNamed B.named, hts⟩, hO, B.returns, B.notSynchronized⟩ (name_of_methodNamed B.named B.method).1 ⟨hW, va_S.rf⟩ _ hl
