/-! more rows: statics by V (old addresses: V 0: the empty array of ArrayList), compares of cells, casts, inherited fields under the heir's name, any object into an array of Object -/
set_option maxRecDepth 100000
def mFacts (V : Nat → Nat) (n0 : Nat) (U : State) (H : Heap) : Prop := va_Z "java/util/ArrayList" "DEFAULTCAPACITY_EMPTY_ELEMENTDATA" "[Ljava/lang/Object;" (.ref (V 0)) (mA n0) U H ∧ va_Mi "[Ljava/lang/Object;" (V 1) U
def mV (V : Nat → Nat) (n0 : Nat) (P : mP) : Prop := ∀ (U : State) (H : Heap), P U H → mFacts V n0 U H
theorem mV_0 {V : Nat → Nat} {n0 : Nat} {P : mP} (h : mV V n0 P) (U : State) (H : Heap) (hP : P U H) : va_Z "java/util/ArrayList" "DEFAULTCAPACITY_EMPTY_ELEMENTDATA" "[Ljava/lang/Object;" (.ref (V 0)) (mA n0) U H := (h U H hP).1
theorem mV_1 {V : Nat → Nat} {n0 : Nat} {P : mP} (h : mV V n0 P) (U : State) (H : Heap) (hP : P U H) : va_Mi "[Ljava/lang/Object;" (V 1) U := (h U H hP).2
section MMORE
variable {p : Program} {l : Launch} {e : Env} {R : Room} {s : State} {m : MethodId} {args : Array Value} {below : List Frame} {meth : Method} {c : Code} {H : Heap} {locs : List Loc} {cells slots : Nat} {Q : State → Prop}
variable {cc : ByteArray} {nL pc : Nat} {ls : Array Slot} {rest : List Value} {D : va_G} {n0 : Nat} {P : mP} {S : mSh} {M M1 : mMm} {n : Nat} {own : String} {ret : Option FieldType}
variable {C ref : String} {T : u_T} {N ci index a k : Nat} {ty0 : Nat → FieldType} {i x : Int32} {y v : Nat}
theorem m_gets {n d : String} {v : Value} {N : Nat} (X : mCx D n0 P p m c cc nL s args own meth ret) (hp : mHp D n0 S M N s H locs) (hZ : va_Z C n d v (mA n0) s s.heap) (hlink : Cond.fieldLink own index C n d ∈ lw_all) (hdg : decode cc pc = .ok (.getstatic index, 3))
    (kk : W p l e R s m args below meth c H locs cells slots Q (F0 m (pc + 3) ls (v :: rest))) : W p l e R s m args below meth c H locs cells slots Q (F0 m pc ls rest) :=
  va_gets X.1.1 X.1.2.1 hZ hp.2 X.1.2.2.2.1 (X.1.2.2.2.2 _ hlink) (fun _ h => h) hdg kk
theorem m_acmp_eq {x y : Nat} {off : Int} {tgt : Nat} (hx : p.tables.exec = Jvm.exec) (hb : c.code = cc) (hdg : decode cc pc = .ok (.if_acmp .eq off, 3)) (ht : (pc : Int) + off = (tgt : Int))
    (kt : x = y → W p l e R s m args below meth c H locs cells slots Q (F0 m tgt ls rest)) (kf : ¬ x = y → W p l e R s m args below meth c H locs cells slots Q (F0 m (pc + 3) ls rest)) : W p l e R s m args below meth c H locs cells slots Q (F0 m pc ls (.ref y :: .ref x :: rest)) :=
  lv_acmp_eq (rx := some x) (ry := some y) hx hb hdg ht (fun h => kt (Option.some.inj h)) (fun h => kf (fun z => h (by rw [z])))
theorem m_acmp_ne {x y : Nat} {off : Int} {tgt : Nat} (hx : p.tables.exec = Jvm.exec) (hb : c.code = cc) (hdg : decode cc pc = .ok (.if_acmp .ne off, 3)) (ht : (pc : Int) + off = (tgt : Int))
    (kt : ¬ x = y → W p l e R s m args below meth c H locs cells slots Q (F0 m tgt ls rest)) (kf : x = y → W p l e R s m args below meth c H locs cells slots Q (F0 m (pc + 3) ls rest)) : W p l e R s m args below meth c H locs cells slots Q (F0 m pc ls (.ref y :: .ref x :: rest)) :=
  lv_acmp_ne (rx := some x) (ry := some y) hx hb hdg ht (fun h => kt (fun z => h (by rw [z]))) (fun h => kf (Option.some.inj h))
theorem m_cast (X : mCx D n0 P p m c cc nL s args own meth ret) (hp : mHp D n0 S M n s H locs) (hC : mCl ci C T N ty0) (hv : (S a).1 = ci) (hlink : Cond.classLink own index C ∈ lw_all) (hdg : decode cc pc = .ok (.checkcast index, 3))
    (kk : W p l e R s m args below meth c H locs cells slots Q (F0 m (pc + 3) ls (.ref a :: rest))) : W p l e R s m args below meth c H locs cells slots Q (F0 m pc ls (.ref a :: rest)) := by
  obtain ⟨-, cell, g1, g2, g3, -⟩ := hp.obj hv hC.2.2.1 hC.2.1
  have hcl := (X.2.1.1.1 ci _ hC.2.1).2
  exact va_castS X.1.1 X.1.2.1 X.1.2.2.2.1 (X.1.2.2.2.2 _ hlink) hcl ⟨cell, g1, by rw [g3]; rfl, by rw [g2]; exact hcl.1⟩ hdg kk
theorem m_getIS (X : mCx D n0 P p m c cc nL s args own meth ret) (hp : mHp D n0 S M n s H locs) (h : rI S M a ci k = some x) (hC : mCl ci C T N ty0) (hk : k < N) (hsm : Cond.sameField ref (T k).1 (T k).2.1 (T k).2.2.1 ∈ lw_all) (hlink : Cond.fieldLink own index ref (T k).2.1 (T k).2.2.1 ∈ lw_all) (hdg : decode cc pc = .ok (.getfield index, 3))
    (kk : W p l e R s m args below meth c H locs cells slots Q (F0 m (pc + 3) ls (.int x :: rest))) : W p l e R s m args below meth c H locs cells slots Q (F0 m pc ls (.ref a :: rest)) := m_get X hp hC.1 hC.2.1 hC.2.2.1 k hk hlink (u_same (X.1.2.2.2.2 _ hsm)) (rI_s h) hdg kk
theorem m_putWS {v : Value} (X : mCx D n0 P p m c cc nL s args own meth ret) (hp : mHp D n0 S M n s H locs) (h : wF S M a ci k v = some M1) (hC : mCl ci C T N ty0) (hk : k < N) (hsm : Cond.sameField ref (T k).1 (T k).2.1 (T k).2.2.1 ∈ lw_all) (hlink : Cond.fieldLink own index ref (T k).2.1 (T k).2.2.1 ∈ lw_all) (hfin : (T k).2.2.2 = false) (hn : narrow (ty0 k) v = v) (hfit : fits (ty0 k) v = true) (hdg : decode cc pc = .ok (.putfield index, 3))
    (kk : ∀ (H1 : Heap) (locs1 : List Loc), mHp D n0 S M1 n s H1 locs1 → W p l e R s m args below meth c H1 locs1 cells slots Q (F0 m (pc + 3) ls rest)) : W p l e R s m args below meth c H locs cells slots Q (F0 m pc ls (v :: .ref a :: rest)) :=
  m_put X hp hC.1 hC.2.1 hC.2.2.1 ty0 hC.2.2.2.1 hC.2.2.2.2 k hk hlink (u_same (X.1.2.2.2.2 _ hsm)) hfin hn hfit (wF_s h).1 hdg (fun H1 l1 g => kk H1 l1 (by rw [(wF_s h).2]; exact g))
/-- all our classes can be cast to Object -/
theorem ca_all {r : vw_C} : ∀ {ci : Nat}, 0 < ci → ci < 16 → mcl[ci]? = some r → Cond.castable r.1 "java/lang/Object" ∈ lw_tbl
  | 1, _, _, h => by cases h; exact q2056
  | 2, _, _, h => by cases h; exact q2055
  | 3, _, _, h => by cases h; exact q2057
  | 4, _, _, h => by cases h; exact q2054
  | 5, _, _, h => by cases h; exact q2053
  | 6, _, _, h => by cases h; exact q2059
  | 7, _, _, h => by cases h; exact q2060
  | 8, _, _, h => by cases h; exact q2061
  | 9, _, _, h => by cases h; exact q2062
  | 10, _, _, h => by cases h; exact q2063
  | 11, _, _, h => by cases h; exact q2064
  | 12, _, _, h => by cases h; exact q2065
  | 13, _, _, h => by cases h; exact q2066
  | 14, _, _, h => by cases h; exact q2067
  | 15, _, _, h => by cases h; exact q2058
  | ci + 16, _, h1, _ => absurd h1 (by omega)
theorem m_aaO (X : mCx D n0 P p m c cc nL s args own meth ret) (hp : mHp D n0 S M n s H locs) (h : wA S M a 107 i (.ref v) = some M1) (hv : 0 < (S v).1 ∧ (S v).1 < 16) (hdg : decode cc pc = .ok (.aastore, 1))
    (kk : ∀ (H1 : Heap) (locs1 : List Loc), mHp D n0 S M1 n s H1 locs1 → W p l e R s m args below meth c H1 locs1 cells slots Q (F0 m (pc + 1) ls rest)) : W p l e R s m args below meth c H locs cells slots Q (F0 m pc ls (.ref v :: .int i :: .ref a :: rest)) := by
  obtain ⟨r, hr⟩ : ∃ r, mcl[(S v).1]? = some r := by
    have hl : (S v).1 < mcl.length := hv.2
    exact ⟨mcl[(S v).1], List.getElem?_eq_getElem hl⟩
  exact m_aastC X hp 107 (S v).1 rfl (by decide) hr ⟨by omega, by omega⟩ (ca_all hv.1 hv.2 hr) rfl (wA_s h).1 hdg (fun H1 l1 g => kk H1 l1 (by rw [(wA_s h).2]; exact g))
end MMORE
