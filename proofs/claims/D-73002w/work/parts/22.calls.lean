/-! THE LAYER's ENDS AND CALLS -/
set_option maxRecDepth 100000
section MCALL
variable {p : Program} {l : Launch} {e : Env} {R : Room} {s : State} {m : MethodId} {args : Array Value} {below : List Frame} {meth : Method} {c : Code} {H : Heap} {locs : List Loc} {cells slots : Nat} {Q : State → Prop}
variable {cc : ByteArray} {nL pc : Nat} {ls : Array Slot} {rest : List Value} {D : va_G} {n0 : Nat} {P : mP} {S : mSh} {M : mMm} {n : Nat} {own : String} {ret : Option FieldType}
theorem mHp.post (hp : mHp D n0 S M n s H locs) (v : Option Value) (args : Array Value) : ∀ t : State, t.heap = H → s.WarmedH t.vm → mQ D n0 v S M n args s (.returned v) t := fun t ht _ => ⟨rfl, by rw [ht]; exact hp.1, hp.2.F ht⟩
theorem m_iret {r : Int32} (X : mCx D n0 P p m c cc nL s args own meth (some .int)) (hp : mHp D n0 S M n s H locs) (hdg : decode cc pc = .ok (.ireturn, 1)) :
    W p l e R s m args below meth c H locs cells slots (MQ below (mQ D n0 (some (.int r)) S M n) args s cells slots (mA n0)) (F0 m pc ls [.int r]) :=
  W.iret X.1.1 X.1.2.1 X.2.2.1 (hp.post _ _) hp.2.2.2 hdg X.2.2.2
theorem m_zret {r : Int32} (X : mCx D n0 P p m c cc nL s args own meth (some .boolean)) (hp : mHp D n0 S M n s H locs) (hn : narrow .boolean (.int r) = .int r) (hdg : decode cc pc = .ok (.ireturn, 1)) :
    W p l e R s m args below meth c H locs cells slots (MQ below (mQ D n0 (some (.int r)) S M n) args s cells slots (mA n0)) (F0 m pc ls [.int r]) :=
  W.zret X.1.1 X.1.2.1 X.2.2.1 hn (hp.post _ _) hp.2.2.2 hdg X.2.2.2
theorem m_vret (X : mCx D n0 P p m c cc nL s args own meth none) (hp : mHp D n0 S M n s H locs) (hdg : decode cc pc = .ok (.return_, 1)) :
    W p l e R s m args below meth c H locs cells slots (MQ below (mQ D n0 none S M n) args s cells slots (mA n0)) (F0 m pc ls []) :=
  W.vret X.1.1 X.1.2.1 X.2.2.1 (hp.post _ _) hp.2.2.2 hdg X.2.2.2
/-- behind a call -/
theorem m_back {mc ms : Nat} {v : Option Value} {S' : mSh} {M' : mMm} {n' : Nat} {a : Array Value} {st0 : List Value} (hp : mHp D n0 S M n s H locs)
    (hr : va_Run p l e R s m args below meth c H locs cells slots mc ms (F0 m pc ls st0) rest (mQ D n0 v S' M' n' a) (mA n0))
    (kk : ∀ (H1 : Heap) (locs1 : List Loc), mHp D n0 S' M' n' s H1 locs1 → W p l e R s m args below meth c H1 locs1 (cells + mc) (slots + ms) Q (F0 m (pc + 3) ls (v.toList ++ rest))) : W p l e R s m args below meth c H locs cells slots Q (F0 m pc ls st0) := by
  intro T hT X
  obtain ⟨v', st₀, t, T', L, h0, X', hL, e1, e2, ⟨hv, hw, hz, hk⟩, st⟩ := hr T hT X
  cases hv
  rw [h0] at hz hk
  obtain ⟨t2, a1, b1⟩ := kk T'.heap (locs ++ L) ⟨by rw [e1]; exact hw, Nat.le_trans hp.2.1 (by rw [e1]; exact hz), fun q h1 h2 => by rw [e1, hk q (Nat.lt_of_lt_of_le h1 hp.2.1) h2]; exact hp.2.2.1 q h1 h2, fun q hq => by
      rcases List.mem_append.mp hq with h | h
      · exact hp.2.2.2 q h
      · exact hL q h⟩ T' rfl X'
  exact ⟨t2, st t2 a1, b1⟩
theorem m_pre (X : mCx D n0 P p m c cc nL s args own meth ret) (hp : mHp D n0 S M n s H locs) (As : List Value) : ∀ U : State, U.heap = H → s.WarmedH U.vm → mPc D n0 P As S M n As.toArray U := fun U hU hW => ⟨rfl, by rw [hU]; exact hp.1, by rw [hU]; exact X.2.1.move hW hp.2⟩
variable {y : MethodName} {bytes : ByteArray} {maxL index fr lo mc ms : Nat} {ry : Option FieldType} {As : List Value} {v : Option Value} {S' : mSh} {M' : mMm} {n' : Nat} {st : List Value} {b : Nat}
/-- what a call's method is: not a handle, so many parameters -/
abbrev mDs (y : MethodName) (k : Nat) : Prop := y.cls ≠ "java/lang/invoke/MethodHandle" ∧ y.cls ≠ "java/lang/invoke/VarHandle" ∧ (parseMethodDescriptor y.desc).map (fun d => d.parameters.length) = some k
theorem m_callS (X : mCx D n0 P p m c cc nL s args own meth ret) (hp : mHp D n0 S M n s H locs) (hC : mCt l D n0 P y bytes maxL ry fr lo mc ms As S M n v S' M' n')
    (q1 : Cond.methodLink own index y ∈ lw_all) (q2 : Cond.static y ∈ lw_all) (q3 : Cond.initialized y.cls ∈ lw_all) (q4 : Cond.code y bytes maxL ry ∈ lw_all) (k : Nat) (hk : As.length = k) (hd : mDs y k) (hR : fr + 1 ≤ R.frames ∧ 8 + (maxL + 11) + lo ≤ R.locals)
    (hsz : ls.size = nL) (hst : st = As.reverse ++ rest) (hroom : (rest.map fun v => v.category).sum ≤ 8) (hdg : decode cc pc = .ok (.invokestatic index, 3)) (hf : cells + mc ≤ R.cells ∧ slots + ms ≤ R.slots)
    (kk : ∀ (H1 : Heap) (locs1 : List Loc), mHp D n0 S' M' n' s H1 locs1 → W p l e R s m args below meth c H1 locs1 (cells + mc) (slots + ms) Q (F0 m (pc + 3) ls (v.toList ++ rest))) : W p l e R s m args below meth c H locs cells slots Q (F0 m pc ls st) := by
  subst hst
  exact m_back hp (va_runS (As := As) (rest := rest) X.1 hC (va_cwS k X.1.2.2.2.2 (lw_S q1 q2 q3 q4) rfl rfl rfl hd hR) ⟨mPc.blind, m_pre X hp As⟩ rfl hk hsz rfl (lv_room hroom) hdg hf) kk
theorem m_callV (X : mCx D n0 P p m c cc nL s args own meth ret) (hp : mHp D n0 S M n s H locs) (hC : mCt l D n0 P y bytes maxL ry fr lo mc ms (.ref b :: As) S M n v S' M' n')
    (q1 : Cond.methodLink own index y ∈ lw_all) (q2 : Cond.instanceMethod y ∈ lw_all) (q3 : Cond.selects y.cls y y ∈ lw_all) (q4 : Cond.initialized y.cls ∈ lw_all) (q5 : Cond.code y bytes maxL ry ∈ lw_all) (k : Nat) (hk : As.length = k) (hd : mDs y k) (hR : fr + 1 ≤ R.frames ∧ 8 + (maxL + 11) + lo ≤ R.locals)
    (ci : Nat) {T : u_T} {N : Nat} (hc : mcl[ci]? = some (y.cls, T, N)) (hci : ci < 100 ∧ ci ≠ 0) (hb : (S b).1 = ci)
    (hsz : ls.size = nL) (hst : st = As.reverse ++ .ref b :: rest) (hroom : (rest.map fun v => v.category).sum ≤ 8) (hdg : decode cc pc = .ok (.invokevirtual index, 3)) (hf : cells + mc ≤ R.cells ∧ slots + ms ≤ R.slots)
    (kk : ∀ (H1 : Heap) (locs1 : List Loc), mHp D n0 S' M' n' s H1 locs1 → W p l e R s m args below meth c H1 locs1 (cells + mc) (slots + ms) Q (F0 m (pc + 3) ls (v.toList ++ rest))) : W p l e R s m args below meth c H locs cells slots Q (F0 m pc ls st) := by
  subst hst
  obtain ⟨-, cell, g1, g2, g3, -⟩ := hp.obj hb hci hc
  exact m_back hp (va_runV (As := As) (rest := rest) X.1 hC (cwV k X.1.2.2.2.2 (lw_V q1 q2 q3 q4 q5) rfl rfl rfl ⟨rfl, hd⟩ hR) ⟨mPc.blind, ⟨cell, g1, by rw [g3]; rfl, by rw [g2]; exact (X.2.1.1.1 ci _ hc).2.1⟩, m_pre X hp (.ref b :: As)⟩ rfl hk hsz rfl (lv_room hroom) hdg hf) kk
theorem m_callI (X : mCx D n0 P p m c cc nL s args own meth ret) (hp : mHp D n0 S M n s H locs) (hC : mCt l D n0 P y bytes maxL none fr lo mc ms (.ref b :: As) S M n v S' M' n')
    (q1 : Cond.methodLink own index y ∈ lw_all) (q2 : Cond.instanceMethod y ∈ lw_all) (q4 : Cond.initialized y.cls ∈ lw_all) (q5 : Cond.code y bytes maxL none ∈ lw_all) (hi : y.name = "<init>") (k : Nat) (hk : As.length = k) (hd : mDs y k) (hR : fr + 1 ≤ R.frames ∧ 8 + (maxL + 11) + lo ≤ R.locals)
    (hsz : ls.size = nL) (hst : st = As.reverse ++ .ref b :: rest) (hroom : (rest.map fun v => v.category).sum ≤ 8) (hdg : decode cc pc = .ok (.invokespecial index, 3)) (hf : cells + mc ≤ R.cells ∧ slots + ms ≤ R.slots)
    (kk : ∀ (H1 : Heap) (locs1 : List Loc), mHp D n0 S' M' n' s H1 locs1 → W p l e R s m args below meth c H1 locs1 (cells + mc) (slots + ms) Q (F0 m (pc + 3) ls (v.toList ++ rest))) : W p l e R s m args below meth c H locs cells slots Q (F0 m pc ls st) := by
  subst hst
  have hts := X.1.2.2.2.2
  exact m_back hp (va_runI (As := As) (rest := rest) X.1 hC (cwI k hts (lw_meth q5) rfl rfl rfl (hts _ q4) (hts _ q1) (hts _ q2) hi hd hR) ⟨mPc.blind, m_pre X hp (.ref b :: As)⟩ rfl hk hsz rfl (lv_room hroom) hdg hf) kk
/-- a nest mate's private static method -/
theorem m_callSN {host : String} (X : mCx D n0 P p m c cc nL s args own meth ret) (hp : mHp D n0 S M n s H locs) (hC : mCt l D n0 P y bytes maxL ry fr lo mc ms As S M n v S' M' n')
    (q1 : Cond.methodLinkNest own index y host ∈ lw_tbl) (q2 : Cond.static y ∈ lw_all) (q3 : Cond.initialized y.cls ∈ lw_all) (q4 : Cond.code y bytes maxL ry ∈ lw_all) (k : Nat) (hk : As.length = k) (hd : mDs y k) (hR : fr + 1 ≤ R.frames ∧ 8 + (maxL + 11) + lo ≤ R.locals)
    (hsz : ls.size = nL) (hst : st = As.reverse ++ rest) (hroom : (rest.map fun v => v.category).sum ≤ 8) (hdg : decode cc pc = .ok (.invokestatic index, 3)) (hf : cells + mc ≤ R.cells ∧ slots + ms ≤ R.slots)
    (kk : ∀ (H1 : Heap) (locs1 : List Loc), mHp D n0 S' M' n' s H1 locs1 → W p l e R s m args below meth c H1 locs1 (cells + mc) (slots + ms) Q (F0 m (pc + 3) ls (v.toList ++ rest))) : W p l e R s m args below meth c H locs cells slots Q (F0 m pc ls st) := by
  subst hst
  have hts := X.1.2.2.2.2
  exact m_back hp (va_runSN (As := As) (rest := rest) X.1 hC ⟨va_cnB k hts (lw_meth q4) rfl rfl rfl (X.2.1.2.1 _ q1 rfl) (hts _ q3) hd hR, hts _ q2, trivial⟩ ⟨mPc.blind, m_pre X hp As⟩ rfl hk hsz rfl (lv_room hroom) hdg hf) kk
/-- a nest mate's private constructor -/
theorem m_callIN {host : String} (X : mCx D n0 P p m c cc nL s args own meth ret) (hp : mHp D n0 S M n s H locs) (hC : mCt l D n0 P y bytes maxL none fr lo mc ms (.ref b :: As) S M n v S' M' n')
    (q1 : Cond.methodLinkNest own index y host ∈ lw_tbl) (q2 : Cond.instanceMethod y ∈ lw_all) (q4 : Cond.initialized y.cls ∈ lw_all) (q5 : Cond.code y bytes maxL none ∈ lw_all) (hi : y.name = "<init>") (k : Nat) (hk : As.length = k) (hd : mDs y k) (hR : fr + 1 ≤ R.frames ∧ 8 + (maxL + 11) + lo ≤ R.locals)
    (hsz : ls.size = nL) (hst : st = As.reverse ++ .ref b :: rest) (hroom : (rest.map fun v => v.category).sum ≤ 8) (hdg : decode cc pc = .ok (.invokespecial index, 3)) (hf : cells + mc ≤ R.cells ∧ slots + ms ≤ R.slots)
    (kk : ∀ (H1 : Heap) (locs1 : List Loc), mHp D n0 S' M' n' s H1 locs1 → W p l e R s m args below meth c H1 locs1 (cells + mc) (slots + ms) Q (F0 m (pc + 3) ls (v.toList ++ rest))) : W p l e R s m args below meth c H locs cells slots Q (F0 m pc ls st) := by
  subst hst
  have hts := X.1.2.2.2.2
  exact m_back hp (va_runIN (As := As) (rest := rest) X.1 hC ⟨va_cnB k hts (lw_meth q5) rfl rfl rfl (X.2.1.2.1 _ q1 rfl) (hts _ q4) hd hR, hi, hts _ q2⟩ ⟨mPc.blind, m_pre X hp (.ref b :: As)⟩ rfl hk hsz rfl (lv_room hroom) hdg hf) kk
end MCALL
/-! the pure words: what a method's function is made of -/
def ob {α β : Type} (o : Option α) (k : α → Option β) : Option β := match o with
  | some x => k x
  | none => none
def nm {α β : Type} (x : α) (k : α → Option β) : Option β := k x
def gd {β : Type} (c : Prop) [Decidable c] (k : Option β) : Option β := if c then k else none
def rI (S : mSh) (M : mMm) (a ci k : Nat) : Option Int32 := if (S a).1 = ci then (match M a k with | .int x => some x | _ => none) else none
def rR (S : mSh) (M : mMm) (a ci k : Nat) : Option Nat := if (S a).1 = ci then (match M a k with | .ref x => some x | _ => none) else none
def wF (S : mSh) (M : mMm) (a ci k : Nat) (v : Value) : Option mMm := if (S a).1 = ci then some (mu2 M a k v) else none
def aI (S : mSh) (M : mMm) (a tg : Nat) (i : Int32) : Option Int32 := if (S a).1 = tg ∧ ¬ (i < 0 ∨ (S a).2 ≤ i.toNatClampNeg) then (match M a i.toNatClampNeg with | .int x => some x | _ => none) else none
def aL (S : mSh) (M : mMm) (a tg : Nat) (i : Int32) : Option Int64 := if (S a).1 = tg ∧ ¬ (i < 0 ∨ (S a).2 ≤ i.toNatClampNeg) then (match M a i.toNatClampNeg with | .long x => some x | _ => none) else none
def aR (S : mSh) (M : mMm) (a tg : Nat) (i : Int32) : Option Nat := if (S a).1 = tg ∧ ¬ (i < 0 ∨ (S a).2 ≤ i.toNatClampNeg) then (match M a i.toNatClampNeg with | .ref x => some x | _ => none) else none
def wA (S : mSh) (M : mMm) (a tg : Nat) (i : Int32) (v : Value) : Option mMm := if (S a).1 = tg ∧ ¬ (i < 0 ∨ (S a).2 ≤ i.toNatClampNeg) then some (mu2 M a i.toNatClampNeg v) else none
def aN (S : mSh) (a tg : Nat) : Option Int32 := if (S a).1 = tg then some (nI (S a).2) else none
theorem ob_s {α β : Type} {o : Option α} {k : α → Option β} {z : β} (h : ob o k = some z) : ∃ x, o = some x ∧ k x = some z := by
  cases o with
  | none => cases h
  | some x => exact ⟨x, rfl, h⟩
theorem nm_s {α β : Type} {x : α} {k : α → Option β} {z : β} (h : nm x k = some z) {y : α} (e : y = x) : k y = some z := by rw [e]; exact h
theorem gd_s {β : Type} {c : Prop} [Decidable c] {k : Option β} {z : β} (h : gd c k = some z) : c ∧ k = some z := by
  unfold gd at h
  split at h
  · next hc => exact ⟨hc, h⟩
  · cases h
theorem if_p {β : Type} {c : Prop} [Decidable c] {A B z : β} (hc : c) (h : (if c then A else B) = z) : A = z := by rw [if_pos hc] at h; exact h
theorem if_n {β : Type} {c : Prop} [Decidable c] {A B z : β} (hc : ¬ c) (h : (if c then A else B) = z) : B = z := by rw [if_neg hc] at h; exact h
theorem rI_s {S : mSh} {M : mMm} {a ci k : Nat} {x : Int32} (h : rI S M a ci k = some x) : (S a).1 = ci ∧ M a k = .int x := by
  unfold rI at h
  split at h
  · next hc =>
    split at h
    · next y hy => cases h; exact ⟨hc, hy⟩
    · cases h
  · cases h
theorem rR_s {S : mSh} {M : mMm} {a ci k : Nat} {x : Nat} (h : rR S M a ci k = some x) : (S a).1 = ci ∧ M a k = .ref x := by
  unfold rR at h
  split at h
  · next hc =>
    split at h
    · next y hy => cases h; exact ⟨hc, hy⟩
    · cases h
  · cases h
theorem wF_s {S : mSh} {M M' : mMm} {a ci k : Nat} {v : Value} (h : wF S M a ci k v = some M') : (S a).1 = ci ∧ M' = mu2 M a k v := by
  unfold wF at h
  split at h
  · next hc => cases h; exact ⟨hc, rfl⟩
  · cases h
theorem aI_s {S : mSh} {M : mMm} {a tg : Nat} {i : Int32} {x : Int32} (h : aI S M a tg i = some x) : mEl S M a tg i (.int x) := by
  unfold aI at h
  split at h
  · next hc =>
    split at h
    · next y hy => cases h; exact ⟨hc.1, hc.2, hy⟩
    · cases h
  · cases h
theorem aL_s {S : mSh} {M : mMm} {a tg : Nat} {i : Int32} {x : Int64} (h : aL S M a tg i = some x) : mEl S M a tg i (.long x) := by
  unfold aL at h
  split at h
  · next hc =>
    split at h
    · next y hy => cases h; exact ⟨hc.1, hc.2, hy⟩
    · cases h
  · cases h
theorem aR_s {S : mSh} {M : mMm} {a tg : Nat} {i : Int32} {x : Nat} (h : aR S M a tg i = some x) : mEl S M a tg i (.ref x) := by
  unfold aR at h
  split at h
  · next hc =>
    split at h
    · next y hy => cases h; exact ⟨hc.1, hc.2, hy⟩
    · cases h
  · cases h
theorem wA_s {S : mSh} {M M' : mMm} {a tg : Nat} {i : Int32} {v : Value} (h : wA S M a tg i v = some M') : mIx S a tg i ∧ M' = mu2 M a i.toNatClampNeg v := by
  unfold wA at h
  split at h
  · next hc => cases h; exact ⟨⟨hc.1, hc.2⟩, rfl⟩
  · cases h
theorem aN_s {S : mSh} {a tg : Nat} {x : Int32} (h : aN S a tg = some x) : (S a).1 = tg ∧ nI (S a).2 = x := by
  unfold aN at h
  split at h
  · next hc => cases h; exact ⟨hc, rfl⟩
  · cases h
