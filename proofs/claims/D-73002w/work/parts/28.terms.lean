/-! calls by the class of the receiver: a term's 'of', the asker's 'fact'; a field that may be null -/
set_option maxRecDepth 100000
def rQ (S : mSh) (M : mMm) (a ci k : Nat) : Option (Option Nat) := if (S a).1 = ci then (match M a k with | .ref x => some (some x) | .null => some none | _ => none) else none
theorem rQ_s {S : mSh} {M : mMm} {a ci k : Nat} {x : Option Nat} (h : rQ S M a ci k = some x) : (S a).1 = ci ∧ M a k = va_rf x := by
  unfold rQ at h
  split at h
  · next hc =>
    split at h
    · next y hy => cases h; exact ⟨hc, hy⟩
    · next hy => cases h; exact ⟨hc, hy⟩
    · cases h
  · cases h
def mTermX : MethodName := ⟨"WindingSquare$Term", "of", "(LWindingSquare$Asker;)I"⟩
/-- a term at a, asked by b, answers r, by its class -/
def mTt (l : Launch) (D : va_G) (n0 : Nat) (P : mP) (S : mSh) (M : mMm) (n fr lo a b : Nat) (r : Int32) : Prop :=
  ((S a).1 = 9 ∧ mCt l D n0 P yX9_of cX9_of 2 (some .int) fr lo 0 0 [.ref a, .ref b] S M n (some (.int r)) S M n) ∨
  ((S a).1 = 10 ∧ mCt l D n0 P yX10_of cX10_of 2 (some .int) fr lo 0 0 [.ref a, .ref b] S M n (some (.int r)) S M n) ∨
  ((S a).1 = 11 ∧ mCt l D n0 P yX11_of cX11_of 4 (some .int) fr lo 0 0 [.ref a, .ref b] S M n (some (.int r)) S M n) ∨
  ((S a).1 = 12 ∧ mCt l D n0 P yX12_of cX12_of 2 (some .int) fr lo 0 0 [.ref a, .ref b] S M n (some (.int r)) S M n)
section MTERM
variable {p : Program} {l : Launch} {e : Env} {R : Room} {s : State} {m : MethodId} {args : Array Value} {below : List Frame} {meth : Method} {c : Code} {H : Heap} {locs : List Loc} {cells slots : Nat} {Q : State → Prop}
variable {cc : ByteArray} {nL pc : Nat} {ls : Array Slot} {rest : List Value} {D : va_G} {n0 : Nat} {P : mP} {S : mSh} {M : mMm} {n : Nat} {own : String} {ret : Option FieldType}
theorem m_back5 {mc ms : Nat} {v : Option Value} {S' : mSh} {M' : mMm} {n' : Nat} {a : Array Value} {st0 : List Value} (hp : mHp D n0 S M n s H locs)
    (hr : va_Run5 p l e R s m args below meth c H locs cells slots mc ms (F0 m pc ls st0) rest (mQ D n0 v S' M' n' a) (mA n0))
    (kk : ∀ (H1 : Heap) (locs1 : List Loc), mHp D n0 S' M' n' s H1 locs1 → W p l e R s m args below meth c H1 locs1 (cells + mc) (slots + ms) Q (F0 m (pc + 5) ls (v.toList ++ rest))) : W p l e R s m args below meth c H locs cells slots Q (F0 m pc ls st0) := by
  intro T hT X
  obtain ⟨v', st₀, t, T', L, h0, X', hL, e1, e2, ⟨hv, hw, hz, hk⟩, st⟩ := hr T hT X
  cases hv
  rw [h0] at hz hk
  obtain ⟨t2, a1, b1⟩ := kk T'.heap (locs ++ L) ⟨by rw [e1]; exact hw, Nat.le_trans hp.2.1 (by rw [e1]; exact hz), fun q h1 h2 => by rw [e1, hk q (Nat.lt_of_lt_of_le h1 hp.2.1) h2]; exact hp.2.2.1 q h1 h2, fun q hq => by
      rcases List.mem_append.mp hq with h | h
      · exact hp.2.2.2 q h
      · exact hL q h⟩ T' rfl X'
  exact ⟨t2, st t2 a1, b1⟩
theorem m_callF {index count fr lo b : Nat} {k r : Int32} {M' : mMm} (X : mCx D n0 P p m c cc nL s args own meth ret) (hp : mHp D n0 S M n s H locs) (hC : mCt l D n0 P yX1_fact cX1_fact 3 (some .int) fr lo 0 0 [.ref b, .int k] S M n (some (.int r)) S M' n)
    (q1 : Cond.methodLink own index mFactX ∈ lw_all) (hR : fr + 1 ≤ R.frames ∧ 8 + (3 + 11) + lo ≤ R.locals) (hb : (S b).1 = 2) (hsz : ls.size = nL) (hroom : (rest.map fun v => v.category).sum ≤ 8) (hdg : decode cc pc = .ok (.invokeinterface index count, 5)) (hf : cells + 0 ≤ R.cells ∧ slots + 0 ≤ R.slots)
    (kk : ∀ (H1 : Heap) (locs1 : List Loc), mHp D n0 S M' n s H1 locs1 → W p l e R s m args below meth c H1 locs1 cells slots Q (F0 m (pc + 5) ls (.int r :: rest))) : W p l e R s m args below meth c H locs cells slots Q (F0 m pc ls (.int k :: .ref b :: rest)) := by
  have hts := X.1.2.2.2.2
  have hcl := (X.2.1.1.1 2 _ kX1.2.1).2
  obtain ⟨-, cell, g1, g2, g3, -⟩ := hp.obj hb kX1.2.2.1 kX1.2.1
  have hG : GoodIn lw_all (va_wsF own index "WindingSquare$Square" mFactX yX1_fact (ws_ yX1_fact cX1_fact 3 (some .int))) := by
    refine lw_app ?_ (lw_meth q1145)
    intro w hw
    simp only [List.mem_cons, List.not_mem_nil, or_false] at hw
    rcases hw with e | e | e | e
    · rw [e]; exact q1
    · rw [e]; exact q1141
    · rw [e]; exact q1143
    · rw [e]; exact q133
  exact m_back5 hp (va_runF (As := [.int k]) (rest := rest) hcl X.1 hC (va_cwF 1 hts hG rfl rfl rfl X.2.1.2.2.2.2.2 (by decide +kernel) hR) ⟨mPc.blind, ⟨cell, g1, by rw [g3]; rfl, by rw [g2]; exact hcl.1⟩, m_pre X hp [.ref b, .int k]⟩ rfl rfl hsz rfl (lv_room hroom) hdg hf) kk
/-- an abstract method's call: the receiver's class C, its own method y -/
theorem m_callA {y : MethodName} {bytes : ByteArray} {maxL index fr lo a b ci : Nat} {C : String} {T : u_T} {N : Nat} {ty0 : Nat → FieldType} {r : Int32} (X : mCx D n0 P p m c cc nL s args own meth ret) (hp : mHp D n0 S M n s H locs) (hC : mCt l D n0 P y bytes maxL (some .int) fr lo 0 0 [.ref a, .ref b] S M n (some (.int r)) S M n)
    (q1 : Cond.methodLink own index mTermX ∈ lw_all) (q2 : Cond.selects C mTermX y ∈ lw_all) (q3 : Cond.instanceMethod y ∈ lw_all) (q4 : Cond.initialized y.cls ∈ lw_all) (q5 : Cond.code y bytes maxL (some .int) ∈ lw_all) (hK : mCl ci C T N ty0) (ha : (S a).1 = ci)
    (hR : fr + 1 ≤ R.frames ∧ 8 + (maxL + 11) + lo ≤ R.locals) (hsz : ls.size = nL) (hroom : (rest.map fun v => v.category).sum ≤ 8) (hdg : decode cc pc = .ok (.invokevirtual index, 3)) (hf : cells + 0 ≤ R.cells ∧ slots + 0 ≤ R.slots)
    (kk : ∀ (H1 : Heap) (locs1 : List Loc), mHp D n0 S M n s H1 locs1 → W p l e R s m args below meth c H1 locs1 cells slots Q (F0 m (pc + 3) ls (.int r :: rest))) : W p l e R s m args below meth c H locs cells slots Q (F0 m pc ls (.ref b :: .ref a :: rest)) := by
  have hts := X.1.2.2.2.2
  obtain ⟨-, cell, g1, g2, g3, -⟩ := hp.obj ha hK.2.2.1 hK.2.1
  have hG : GoodIn lw_all (va_wsU own index C "WindingSquare$Term" mTermX y (ws_ y bytes maxL (some .int))) := by
    refine lw_app ?_ (lw_meth q5)
    intro w hw
    simp only [List.mem_cons, List.not_mem_nil, or_false] at hw
    rcases hw with e | e | e | e | e
    · rw [e]; exact q1
    · rw [e]; exact q1126
    · rw [e]; exact q2
    · rw [e]; exact q3
    · rw [e]; exact q4
  exact m_back hp (va_runU (As := [.ref b]) (rest := rest) X.1 hC (va_cwA 1 hts hG rfl rfl rfl (X.2.1.2.1 _ q1125 rfl) (by decide +kernel) hR) ⟨mPc.blind, ⟨cell, g1, by rw [g3]; rfl, by rw [g2]; exact (X.2.1.1.1 ci _ hK.2.1).2.1⟩, m_pre X hp [.ref a, .ref b]⟩ rfl rfl hsz rfl (lv_room hroom) hdg hf) kk
theorem m_callT {index fr lo a b : Nat} {r : Int32} (X : mCx D n0 P p m c cc nL s args own meth ret) (hp : mHp D n0 S M n s H locs) (hC : mTt l D n0 P S M n fr lo a b r)
    (q1 : Cond.methodLink own index mTermX ∈ lw_all) (hR : fr + 1 ≤ R.frames ∧ 8 + (4 + 11) + lo ≤ R.locals) (hsz : ls.size = nL) (hroom : (rest.map fun v => v.category).sum ≤ 8) (hdg : decode cc pc = .ok (.invokevirtual index, 3)) (hf : cells + 0 ≤ R.cells ∧ slots + 0 ≤ R.slots)
    (kk : ∀ (H1 : Heap) (locs1 : List Loc), mHp D n0 S M n s H1 locs1 → W p l e R s m args below meth c H1 locs1 cells slots Q (F0 m (pc + 3) ls (.int r :: rest))) : W p l e R s m args below meth c H locs cells slots Q (F0 m pc ls (.ref b :: .ref a :: rest)) := by
  rcases hC with ⟨h1, hC⟩ | ⟨h1, hC⟩ | ⟨h1, hC⟩ | ⟨h1, hC⟩
  · exact m_callA X hp hC q1 q1127 q1128 q156 q1129 kX9 h1 ⟨hR.1, by omega⟩ hsz hroom hdg hf kk
  · exact m_callA X hp hC q1 q1164 q1134 q157 q1135 kX10 h1 ⟨hR.1, by omega⟩ hsz hroom hdg hf kk
  · exact m_callA X hp hC q1 q1130 q1131 q158 q1132 kX11 h1 hR hsz hroom hdg hf kk
  · exact m_callA X hp hC q1 q1165 q1161 q159 q1162 kX12 h1 ⟨hR.1, by omega⟩ hsz hroom hdg hf kk
/-- a field read and held against null at once -/
theorem m_getQ {C : String} {T : u_T} {N ci index a k : Nat} {ty0 : Nat → FieldType} {host : String} {x : Option Nat} {off : Int} {tgt : Nat} (X : mCx D n0 P p m c cc nL s args own meth ret) (hp : mHp D n0 S M n s H locs) (h : rQ S M a ci k = some x) (hC : mCl ci C T N ty0) (hk : k < N) (hlink : Cond.fieldLinkNest own index (T k).1 (T k).2.1 (T k).2.2.1 host ∈ lw_tbl) (hdg : decode cc pc = .ok (.getfield index, 3)) (hd2 : decode cc (pc + 3) = .ok (.ifnull off, 3)) (ht : ((pc + 3 : Nat) : Int) + off = (tgt : Int))
    (kt : x = none → W p l e R s m args below meth c H locs cells slots Q (F0 m tgt ls rest)) (kf : ¬ x = none → W p l e R s m args below meth c H locs cells slots Q (F0 m (pc + 3 + 3) ls rest)) : W p l e R s m args below meth c H locs cells slots Q (F0 m pc ls (.ref a :: rest)) := by
  refine m_getN X hp hC.1 hC.2.1 hC.2.2.1 k hk hlink (fun _ h => h) (rQ_s h) hdg ?_
  cases x with
  | none => exact lv_ifnullN X.1.1 X.1.2.1 hd2 ht (kt rfl)
  | some y => exact lv_ifnull X.1.1 X.1.2.1 hd2 (kf (fun h => by cases h))
end MTERM
