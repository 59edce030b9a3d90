/-! methods that return or throw a Fault: contracts, calls, the throw -/
set_option maxRecDepth 100000
abbrev mO : Type := Option Value ⊕ Nat
def mQX (D : va_G) (n0 : Nat) (o : mO) (S : mSh) (M : mMm) (n : Nat) : Array Value → State → Outcome → State → Prop := fun a st oo t => ∃ v, o = .inl v ∧ mQ D n0 v S M n a st oo t
def mXC (D : va_G) (n0 : Nat) (o : mO) (S : mSh) (M : mMm) (n : Nat) : Nat → String → State → State → Prop := fun q E st t => o = .inr q ∧ E = RX7 ∧ (S q).1 = 8 ∧ mWd D n0 S M n t.heap ∧ va_F (mA n0) st t
abbrev moI (r : Int32 ⊕ Nat) : mO := match r with
  | .inl x => .inl (some (.int x))
  | .inr q => .inr q
abbrev moR (r : Nat ⊕ Nat) : mO := match r with
  | .inl x => .inl (some (.ref x))
  | .inr q => .inr q
abbrev moV (r : Unit ⊕ Nat) : mO := match r with
  | .inl _ => .inl none
  | .inr q => .inr q
def mXt (l : Launch) (D : va_G) (n0 : Nat) (P : mP) (y : MethodName) (b : ByteArray) (L : Nat) (ret : Option FieldType) (fr lo mc ms : Nat) (av : List Value) (S : mSh) (M : mMm) (n : Nat) (o : mO) (S' : mSh) (M' : mMm) (n' : Nat) : Prop :=
  vx_Met l y (ws_ y b L ret) { frames := fr, cells := mc, slots := ms, locals := lo } (mPc D n0 P av S M n) (mQX D n0 o S' M' n') (mXC D n0 o S' M' n') mc ms (mA n0)
abbrev mMX (below : List Frame) (D : va_G) (n0 : Nat) (o : mO) (S : mSh) (M : mMm) (n : Nat) (args : Array Value) (s : State) (mc ms : Nat) : State → Prop := vx_MQ below (mQX D n0 o S M n) (mXC D n0 o S M n) args s mc ms (mA n0)
theorem m_ofX {l : Launch} {D : va_G} {n0 : Nat} {P : mP} {y : MethodName} {b : ByteArray} {L : Nat} {ret : Option FieldType} {fr lo mc ms : Nat} {av : List Value} {S : mSh} {M : mMm} {n : Nat} {o : mO} {S' : mSh} {M' : mMm} {n' : Nat}
    (hy : plainName y.cls = true) (hL : (lg_sl av).length ≤ L)
    (body : ∀ (p : Program) (e : Env) (s : State) (m : MethodId) (below : List Frame) (meth : Method) (c : Code), mCx D n0 P p m c b L s av.toArray y.cls meth ret → (∀ x ∈ c.exceptionTable.toList, False) → mHp D n0 S M n s s.heap [] → ∀ ls : Array Slot, lv_has ls L (lv_args 0 av) →
      W p l e { frames := fr, cells := mc, slots := ms, locals := lo } s m av.toArray below meth c s.heap [] 0 0 (mMX below D n0 o S' M' n' av.toArray s mc ms) (F0 m 0 ls [])) :
    mXt l D n0 P y b L ret fr lo mc ms av S M n o S' M' n' := by
  refine vx_ofW (cc := b) (maxL := L) (ret := ret) hy rfl ?_
  intro p e s m args below meth c s₁ B hml hT hv
  obtain ⟨rfl, hW, hO⟩ := hv
  have hts := atoms_spec (ws := ws_ y b L ret) B.pre
  have hts : ∀ w ∈ lw_all, w.before _ s = true := fun w h => hts w (List.mem_cons_of_mem _ h)
  have hl := lv_entry av (n := L) hL
  rw [lg_entry_eq]
  exact body p e s m below meth c ⟨⟨B.exec, B.bytes, hml, findClass_of_methodNamed B.named, hts⟩, hO, B.returns, B.notSynchronized⟩ hT ⟨hW, va_S.rf⟩ _ hl
def xk {α β : Type} (o : α ⊕ Nat) (S : mSh) (M : mMm) (n z : Nat) (k : α → Option ((β ⊕ Nat) × mSh × mMm × Nat × Nat)) : Option ((β ⊕ Nat) × mSh × mMm × Nat × Nat) := match o with
  | .inl v => k v
  | .inr q => some (.inr q, S, M, n, z)
theorem xk_s {α β : Type} {o : α ⊕ Nat} {S : mSh} {M : mMm} {n z : Nat} {k : α → Option ((β ⊕ Nat) × mSh × mMm × Nat × Nat)} {w : (β ⊕ Nat) × mSh × mMm × Nat × Nat} (h : xk o S M n z k = some w) : (∃ v, o = .inl v ∧ k v = some w) ∨ ∃ q, o = .inr q ∧ some (.inr q, S, M, n, z) = some w := by
  cases o with
  | inl v => exact Or.inl ⟨v, rfl, h⟩
  | inr q => exact Or.inr ⟨q, rfl, h⟩
section XCALL
variable {p : Program} {l : Launch} {e : Env} {R : Room} {s : State} {m : MethodId} {args : Array Value} {below : List Frame} {meth : Method} {c : Code} {H : Heap} {locs : List Loc} {cells slots : Nat} {Q : State → Prop}
variable {cc : ByteArray} {nL pc : Nat} {ls : Array Slot} {rest : List Value} {D : va_G} {n0 : Nat} {P : mP} {S : mSh} {M : mMm} {n : Nat} {own : String} {ret : Option FieldType}
theorem xm_ret {v : Option Value} {g : JFrame} {mc ms : Nat} (k : W p l e R s m args below meth c H locs cells slots (MQ below (mQ D n0 v S M n) args s mc ms (mA n0)) g) : W p l e R s m args below meth c H locs cells slots (mMX below D n0 (.inl v) S M n args s mc ms) g := by
  intro T hT X
  obtain ⟨t, a1, o, b1, b2, b3, b4⟩ := k T hT X
  exact ⟨t, a1, o, b1, b2, Or.inl ⟨⟨v, rfl, b3⟩, b4⟩⟩
/-- behind a call that returned -/
theorem xm_back {mc ms : Nat} {v : Option Value} {S' : mSh} {M' : mMm} {n' : Nat} {a : Array Value} {st0 : List Value} (hp : mHp D n0 S M n s H locs)
    (hr : vx_Run p l e R s m args below meth c H locs cells slots mc ms (F0 m pc ls st0) rest (mQX D n0 (.inl v) S' M' n' a) (mXC D n0 (.inl v) S' M' n') (mA n0))
    (kk : ∀ (H1 : Heap) (locs1 : List Loc), mHp D n0 S' M' n' s H1 locs1 → W p l e R s m args below meth c H1 locs1 (cells + mc) (slots + ms) Q (F0 m (pc + 3) ls (v.toList ++ rest))) : W p l e R s m args below meth c H locs cells slots Q (F0 m pc ls st0) := by
  intro T hT X
  rcases hr T hT X with ⟨v', st₀, t, T', L, h0, X', hL, e1, e2, ⟨v2, hv2, hv, hw, hz, hk⟩, st⟩ | ⟨q, st₀, t, T', L, E, ce, h0, X', hL, e1, e2, ⟨hx, -⟩, -⟩
  · cases hv2
    cases hv
    rw [h0] at hz hk
    obtain ⟨t2, a1, b1⟩ := kk T'.heap (locs ++ L) ⟨by rw [e1]; exact hw, Nat.le_trans hp.2.1 (by rw [e1]; exact hz), fun q h1 h2 => by rw [e1, hk q (Nat.lt_of_lt_of_le h1 hp.2.1) h2]; exact hp.2.2.1 q h1 h2, fun q hq => by
      rcases List.mem_append.mp hq with h | h
      · exact hp.2.2.2 q h
      · exact hL q h⟩ T' rfl X'
    exact ⟨t2, st t2 a1, b1⟩
  · cases hx
/-- behind a call that threw -/
theorem xm_backT {mc ms : Nat} {q : Nat} {S' : mSh} {M' : mMm} {n' : Nat} {a : Array Value} {st0 : List Value} (hp : mHp D n0 S M n s H locs)
    (hr : vx_Run p l e R s m args below meth c H locs cells slots mc ms (F0 m pc ls st0) rest (mQX D n0 (.inr q) S' M' n' a) (mXC D n0 (.inr q) S' M' n') (mA n0))
    (kk : ∀ (H1 : Heap) (locs1 : List Loc) (ce : Cell), mHp D n0 S' M' n' s H1 locs1 → (S' q).1 = 8 → H1[q]? = some ce → ce.vm = .none → s.vm.findClass RX7 = some ce.cls → vx_W p l e R s m args below meth c H1 locs1 (cells + mc) (slots + ms) Q (F0 m pc ls rest) q) : W p l e R s m args below meth c H locs cells slots Q (F0 m pc ls st0) := by
  intro T hT X
  rcases hr T hT X with ⟨v', st₀, t, T', L, h0, X', hL, e1, e2, ⟨v2, hv2, -⟩, st⟩ | ⟨q', st₀, t, T', L, E, ce, h0, X', hL, e1, e2, ⟨hx, hE, h8, hw, hz, hk⟩, hce, hcv, hcl, st⟩
  · cases hv2
  · cases hx
    subst hE
    rw [h0] at hz hk
    obtain ⟨t2, a1, b1⟩ := kk T'.heap (locs ++ L) ce ⟨by rw [e1]; exact hw, Nat.le_trans hp.2.1 (by rw [e1]; exact hz), fun q h1 h2 => by rw [e1, hk q (Nat.lt_of_lt_of_le h1 hp.2.1) h2]; exact hp.2.2.1 q h1 h2, fun q hq => by
      rcases List.mem_append.mp hq with h | h
      · exact hp.2.2.2 q h
      · exact hL q h⟩ h8 (by rw [e1]; exact hce) hcv hcl T' rfl X'
    exact ⟨t2, st.trans a1, b1⟩
/-- thrown, and not caught here -/
theorem xm_out {q mc ms : Nat} {ce : Cell} (X : mCx D n0 P p m c cc nL s args own meth ret) (hX : ∀ x ∈ c.exceptionTable.toList, False) (hp : mHp D n0 S M n s H locs) (h8 : (S q).1 = 8) (hce : H[q]? = some ce) (hcv : ce.vm = .none) (hcl : s.vm.findClass RX7 = some ce.cls) (hc : cells ≤ mc) (hs : slots ≤ ms) :
    vx_W p l e R s m args below meth c H locs cells slots (mMX below D n0 (.inr q) S M n args s mc ms) (F0 m pc ls rest) q :=
  vx_out (fun x hx => (hX x hx).elim) X.2.2.2 hce hcv hcl (fun t ht _ => ⟨rfl, rfl, h8, by rw [ht]; exact hp.1, hp.2.F ht⟩) hp.2.2.2 hc hs
variable {y : MethodName} {bytes : ByteArray} {maxL index fr lo mc ms : Nat} {ry : Option FieldType} {As : List Value} {v : Option Value} {S' : mSh} {M' : mMm} {n' : Nat} {st : List Value} {b q : Nat} {o : mO}
theorem xm_runV (X : mCx D n0 P p m c cc nL s args own meth ret) (hp : mHp D n0 S M n s H locs) (hC : mXt l D n0 P y bytes maxL ry fr lo mc ms (.ref b :: As) S M n o S' M' n')
    (q1 : Cond.methodLink own index y ∈ lw_all) (q2 : Cond.instanceMethod y ∈ lw_all) (q3 : Cond.selects y.cls y y ∈ lw_all) (q4 : Cond.initialized y.cls ∈ lw_all) (q5 : Cond.code y bytes maxL ry ∈ lw_all) (k : Nat) (hk : As.length = k) (hd : mDs y k) (hR : fr + 1 ≤ R.frames ∧ 8 + (maxL + 11) + lo ≤ R.locals)
    (ci : Nat) {T : u_T} {N : Nat} (hc : mcl[ci]? = some (y.cls, T, N)) (hci : ci < 100 ∧ ci ≠ 0) (hb : (S b).1 = ci)
    (hsz : ls.size = nL) (hroom : (rest.map fun v => v.category).sum ≤ 8) (hdg : decode cc pc = .ok (.invokevirtual index, 3)) (hf : cells + mc ≤ R.cells ∧ slots + ms ≤ R.slots) :
    vx_Run p l e R s m args below meth c H locs cells slots mc ms (F0 m pc ls (As.reverse ++ .ref b :: rest)) rest (mQX D n0 o S' M' n' (Value.ref b :: As).toArray) (mXC D n0 o S' M' n') (mA n0) := by
  obtain ⟨-, cell, g1, g2, g3, -⟩ := hp.obj hb hci hc
  exact vx_runV (As := As) (rest := rest) X.1 hC (cwV k X.1.2.2.2.2 (lw_V q1 q2 q3 q4 q5) rfl rfl rfl ⟨rfl, hd⟩ hR) ⟨mPc.blind, ⟨cell, g1, by rw [g3]; rfl, by rw [g2]; exact (X.2.1.1.1 ci _ hc).2.1⟩, m_pre X hp (.ref b :: As)⟩ rfl hk hsz rfl (lv_room hroom) hdg hf
theorem xm_callV (X : mCx D n0 P p m c cc nL s args own meth ret) (hp : mHp D n0 S M n s H locs) (hC : mXt l D n0 P y bytes maxL ry fr lo mc ms (.ref b :: As) S M n (.inl v) S' M' n')
    (q1 : Cond.methodLink own index y ∈ lw_all) (q2 : Cond.instanceMethod y ∈ lw_all) (q3 : Cond.selects y.cls y y ∈ lw_all) (q4 : Cond.initialized y.cls ∈ lw_all) (q5 : Cond.code y bytes maxL ry ∈ lw_all) (k : Nat) (hk : As.length = k) (hd : mDs y k) (hR : fr + 1 ≤ R.frames ∧ 8 + (maxL + 11) + lo ≤ R.locals)
    (ci : Nat) {T : u_T} {N : Nat} (hc : mcl[ci]? = some (y.cls, T, N)) (hci : ci < 100 ∧ ci ≠ 0) (hb : (S b).1 = ci)
    (hsz : ls.size = nL) (hst : st = As.reverse ++ .ref b :: rest) (hroom : (rest.map fun v => v.category).sum ≤ 8) (hdg : decode cc pc = .ok (.invokevirtual index, 3)) (hf : cells + mc ≤ R.cells ∧ slots + ms ≤ R.slots)
    (kk : ∀ (H1 : Heap) (locs1 : List Loc), mHp D n0 S' M' n' s H1 locs1 → W p l e R s m args below meth c H1 locs1 (cells + mc) (slots + ms) Q (F0 m (pc + 3) ls (v.toList ++ rest))) : W p l e R s m args below meth c H locs cells slots Q (F0 m pc ls st) := by
  subst hst
  exact xm_back hp (xm_runV X hp hC q1 q2 q3 q4 q5 k hk hd hR ci hc hci hb hsz hroom hdg hf) kk
theorem xm_callVT {mc' ms' : Nat} (X : mCx D n0 P p m c cc nL s args own meth ret) (hX : ∀ x ∈ c.exceptionTable.toList, False) (hp : mHp D n0 S M n s H locs) (hC : mXt l D n0 P y bytes maxL ry fr lo mc ms (.ref b :: As) S M n (.inr q) S' M' n')
    (q1 : Cond.methodLink own index y ∈ lw_all) (q2 : Cond.instanceMethod y ∈ lw_all) (q3 : Cond.selects y.cls y y ∈ lw_all) (q4 : Cond.initialized y.cls ∈ lw_all) (q5 : Cond.code y bytes maxL ry ∈ lw_all) (k : Nat) (hk : As.length = k) (hd : mDs y k) (hR : fr + 1 ≤ R.frames ∧ 8 + (maxL + 11) + lo ≤ R.locals)
    (ci : Nat) {T : u_T} {N : Nat} (hc : mcl[ci]? = some (y.cls, T, N)) (hci : ci < 100 ∧ ci ≠ 0) (hb : (S b).1 = ci)
    (hsz : ls.size = nL) (hst : st = As.reverse ++ .ref b :: rest) (hroom : (rest.map fun v => v.category).sum ≤ 8) (hdg : decode cc pc = .ok (.invokevirtual index, 3)) (hf : cells + mc ≤ R.cells ∧ slots + ms ≤ R.slots) (hmc : cells + mc ≤ mc' ∧ slots + ms ≤ ms') :
    W p l e R s m args below meth c H locs cells slots (mMX below D n0 (.inr q) S' M' n' args s mc' ms') (F0 m pc ls st) := by
  subst hst
  exact xm_backT hp (xm_runV X hp hC q1 q2 q3 q4 q5 k hk hd hR ci hc hci hb hsz hroom hdg hf) fun H1 l1 ce hp1 h8 h1 h2 h3 => xm_out X hX hp1 h8 h1 h2 h3 hmc.1 hmc.2
/-- throw new Fault(kind, start) in a method of Reader -/
def mSF (S : mSh) (n : Nat) : mSh := mS1 S n (8, 0)
def mMF (M : mMm) (n : Nat) (k q : Int32) : mMm := mu2 (mu2 (mM1 M n fun j => defaultValue (tyX7k j)) n 0 (.int k)) n 1 (.int q)
set_option maxHeartbeats 1000000 in
theorem xm_throw {a : Nat} {kd : Int} {kv x : Int32} {mc' ms' : Nat} (X : mCx D n0 P p m c cc nL s args RX6 meth ret) (hX : ∀ x ∈ c.exceptionTable.toList, False) (hs : l.stackTraces = false) (hVx : mVx n0 P) (hp : mHp D n0 S M n s H locs) (h0 : ls[0]? = some (.val (.ref a))) (hsz : ls.size = nL) (hv : Int32.ofInt kd = kv) (e1 : rI S M a 7 4 = some x)
    (d0 : decode cc pc = .ok (.new 137, 3)) (d1 : decode cc (pc + 3) = .ok (.dup, 1)) (d2 : decode cc (pc + 4) = .ok (.iconst kd, 1)) (d3 : decode cc (pc + 5) = .ok (.aload_n 0, 1)) (d4 : decode cc (pc + 6) = .ok (.getfield 48, 3)) (d5 : decode cc (pc + 9) = .ok (.invokespecial 139, 3)) (d6 : decode cc (pc + 12) = .ok (.athrow, 1))
    (hroom : (rest.map fun v => v.category).sum ≤ 6) (hR : 5 ≤ R.frames ∧ 142 ≤ R.locals) (hf : cells + 1 ≤ R.cells ∧ slots + 8 ≤ R.slots) (hmc : cells + 1 ≤ mc' ∧ slots + 8 ≤ ms') :
    W p l e R s m args below meth c H locs cells slots (mMX below D n0 (.inr n) (mSF S n) (mMF M n kv x) (n + 1) args s mc' ms') (F0 m pc ls rest) := by
  have hx := X.1.1
  have hb := X.1.2.1
  have hown := X.1.2.2.2.1
  have hts := X.1.2.2.2.2
  have hKn := X.2.1.1.1 8 _ kX7.2.1
  refine W.newcK hx hb hown (hts _ q743) (hts _ q744) (hts _ q154) rfl d0 hf.1 hf.2 hKn.2.1 hp.1.1 fun H1 kC hkC g1 z1 o1 => ?_
  have eS : mSF S n n = (8, 0) := by simp [mSF, mS1]
  have eM : mM1 M n (fun j => defaultValue (tyX7k j)) n = fun j => defaultValue (tyX7k j) := by simp [mM1]
  have hp1 : mHp D n0 (mSF S n) (mM1 M n fun j => defaultValue (tyX7k j)) (n + 1) s H1 locs := by
    refine ⟨m_push hp.1 z1 o1 (Or.inl ?_), m_grow hp.2 hp.1.1 (by omega) o1⟩
    rw [show mS1 S n (8, 0) n = (8, 0) from eS, eM]
    exact ⟨kX7.2.2.1.1, _, kX7.2.1, u_born tyX7k hts kX7.1 hKn hkC g1 kX7.2.2.2.1⟩
  have han : a ≠ n := by
    intro h
    have h7 := (rI_s e1).1
    have := (hp.1.2.2 a (by rw [h7]; decide)).2.lt
    rw [hp.1.1] at this
    omega
  have e2 : rI (mSF S n) (mM1 M n fun j => defaultValue (tyX7k j)) a 7 4 = some x := by
    rw [← e1]
    unfold rI mSF mS1 mM1
    rw [if_neg han, if_neg han]
  refine lv_dup hx hb d1 rfl ?_
  refine lv_iconst hx hb d2 hv ?_
  refine lv_aload_n hx hb d3 rfl h0 ?_
  refine m_getI X hp1 e2 kX6 (Nat.le_of_ble_eq_true rfl) q589 d4 ?_
  have w1 : wF (mSF S n) (mM1 M n fun j => defaultValue (tyX7k j)) n 8 0 (.int kv) = some (mu2 (mM1 M n fun j => defaultValue (tyX7k j)) n 0 (.int kv)) := by unfold wF; rw [eS]; rfl
  have w2 : wF (mSF S n) (mu2 (mM1 M n fun j => defaultValue (tyX7k j)) n 0 (.int kv)) n 8 1 (.int x) = some (mMF M n kv x) := by unfold wF; rw [eS]; rfl
  have hM := w_X7_init (l := l) (D := D) (n := n + 1) hs hVx w1 w2
  refine m_back (v := none) (mc := 0) (ms := 0) hp1 (va_runI (As := [.int kv, .int x]) (rest := .ref n :: rest) X.1 hM (cwI 2 hts (lw_meth q782) rfl rfl rfl (hts _ q154) (hts _ q780) (hts _ q781) rfl ds_X7_init ⟨hR.1, hR.2⟩)
    ⟨fun a9 U g mk h => ⟨mPc.blind a9 U g mk h.1, h.2⟩, fun U hU hW => ⟨m_pre X hp1 [.ref n, .int kv, .int x] U hU hW, mFresh.moved hW.alike ⟨kC, hkC, by rw [hU]; exact g1⟩⟩⟩ rfl rfl hsz rfl (lv_room (by
      rw [List.map_cons, List.sum_cons]
      exact Nat.le_trans (Nat.add_le_add_left hroom 1) (by decide))) d5 ⟨hf.1, hf.2⟩) fun H2 locs2 hp2 => ?_
  refine vx_athrow hx hb d6 ?_
  obtain ⟨-, cell, j1, j2, j3, -⟩ := hp2.obj (a := n) (ci := 8) (by rw [eS]) kX7.2.2.1 kX7.2.1
  exact xm_out X hX hp2 (by rw [eS]) j1 j3 (by rw [j2]; exact hKn.2.1) hmc.1 hmc.2
end XCALL
