/-! THE LAYER's ROWS: fields, arrays, ends, calls (nothing is made) -/
set_option maxRecDepth 100000
theorem m_upd {D : va_G} {n0 : Nat} {S : mSh} {M : mMm} {n a k : Nat} {v : Value} {H H1 : Heap} (h : mWd D n0 S M n H) (hz : H1.size = H.size) (hq : ∀ q, q ≠ a → H1[q]? = H[q]?) (ha : mAt D S (mu2 M a k v) H1 a) : mWd D n0 S (mu2 M a k v) n H1 := by
  refine ⟨hz.trans h.1, h.2.1, fun b hb => ⟨(h.2.2 b hb).1, ?_⟩⟩
  by_cases e : b = a
  · rw [e]; exact ha
  · exact (h.2.2 b hb).2.kept (hq b e) (funext fun j => mu2_a M v e)
theorem mu2_row (M : mMm) (a k : Nat) (v : Value) : mu2 M a k v a = updV (M a) k v := by
  funext j
  simp [mu2, updV]
section MROW
variable {p : Program} {l : Launch} {e : Env} {R : Room} {s : State} {m : MethodId} {args : Array Value} {below : List Frame} {meth : Method} {c : Code} {H : Heap} {locs : List Loc} {cells slots : Nat} {Q : State → Prop}
variable {cc : ByteArray} {nL pc : Nat} {ls : Array Slot} {rest : List Value} {D : va_G} {n0 : Nat} {P : mP} {S : mSh} {M : mMm} {n : Nat} {own : String} {ret : Option FieldType}
theorem mHp.obj (hp : mHp D n0 S M n s H locs) {a ci : Nat} (h : (S a).1 = ci) (hci : ci < 100 ∧ ci ≠ 0) {r : vw_C} (hc : mcl[ci]? = some r) : n0 ≤ a ∧ t_OB a (D.1 ci) r.2.2 (D.2 ci) H (M a) := by
  obtain ⟨h1, h2⟩ := hp.1.2.2 a (by rw [h]; exact hci.2)
  rcases h2 with ⟨-, r', h3, h4⟩ | ⟨h3, -⟩
  · rw [h] at h3 h4
    cases hc.symm.trans h3
    exact ⟨by omega, h4⟩
  · omega
theorem mHp.arr (hp : mHp D n0 S M n s H locs) {a tg : Nat} (h : (S a).1 = tg) (hci : 100 ≤ tg) : (n0 ≤ a ∨ (S a).2 = 0) ∧ H[a]? = some (arrV (D.1 tg) (S a).2 (M a)) := by
  obtain ⟨h1, h2⟩ := hp.1.2.2 a (by rw [h]; omega)
  rcases h2 with ⟨h3, -⟩ | ⟨-, h4⟩
  · omega
  · rw [h] at h4
    exact ⟨by omega, h4⟩
theorem m_get (X : mCx D n0 P p m c cc nL s args own meth ret) (hp : mHp D n0 S M n s H locs) {ref C : String} {T : u_T} {N ci index a : Nat} (hin : ∀ w ∈ u_ws C T N, w ∈ lw_all) (hc : mcl[ci]? = some (C, T, N)) (hci : ci < 100 ∧ ci ≠ 0) (k : Nat) (hk : k < N) (hlink : Cond.fieldLink own index ref (T k).2.1 (T k).2.2.1 ∈ lw_all)
    (hsame : ∀ x, s.fieldFound? (T k).1 (T k).2.1 (T k).2.2.1 = some x → s.fieldFound? ref (T k).2.1 (T k).2.2.1 = some x) {v : Value} (hv : (S a).1 = ci ∧ M a k = v) (hdg : decode cc pc = .ok (.getfield index, 3))
    (kk : W p l e R s m args below meth c H locs cells slots Q (F0 m (pc + 3) ls (v :: rest))) : W p l e R s m args below meth c H locs cells slots Q (F0 m pc ls (.ref a :: rest)) := by
  obtain ⟨⟨hx, hb, hml, hown, hts⟩, hO, -, -⟩ := X
  obtain ⟨-, cell, q1, q2, q3, q4⟩ := hp.obj hv.1 hci hc
  obtain ⟨hS, hfc, kC, hkC, hkind⟩ := hO.1.1 ci _ hc
  obtain ⟨cf, kf, fi, f, hi, hsl⟩ := hS k hk
  refine W.getf hx hb hown (hts _ hlink) (hsame _ hi) (u_facts hfc hkC (u_lays hts hin hk) hi).1 q1 (by rw [q3]; exact fun h => by cases h) (v := v) ?_ rfl rfl hdg kk
  rw [hsl, q4 k hk, hv.2]
theorem m_getN (X : mCx D n0 P p m c cc nL s args own meth ret) (hp : mHp D n0 S M n s H locs) {ref C host : String} {T : u_T} {N ci index a : Nat} (hin : ∀ w ∈ u_ws C T N, w ∈ lw_all) (hc : mcl[ci]? = some (C, T, N)) (hci : ci < 100 ∧ ci ≠ 0) (k : Nat) (hk : k < N) (hlink : Cond.fieldLinkNest own index ref (T k).2.1 (T k).2.2.1 host ∈ lw_tbl)
    (hsame : ∀ x, s.fieldFound? (T k).1 (T k).2.1 (T k).2.2.1 = some x → s.fieldFound? ref (T k).2.1 (T k).2.2.1 = some x) {v : Value} (hv : (S a).1 = ci ∧ M a k = v) (hdg : decode cc pc = .ok (.getfield index, 3))
    (kk : W p l e R s m args below meth c H locs cells slots Q (F0 m (pc + 3) ls (v :: rest))) : W p l e R s m args below meth c H locs cells slots Q (F0 m pc ls (.ref a :: rest)) := by
  obtain ⟨⟨hx, hb, hml, hown, hts⟩, hO, -, -⟩ := X
  obtain ⟨-, cell, q1, q2, q3, q4⟩ := hp.obj hv.1 hci hc
  obtain ⟨hS, hfc, kC, hkC, hkind⟩ := hO.1.1 ci _ hc
  obtain ⟨cf, kf, fi, f, hi, hsl⟩ := hS k hk
  refine va_Wgetf hx hb hown (va_Nw.use rfl (hO.2.1 _ hlink rfl)) (hsame _ hi) (u_facts hfc hkC (u_lays hts hin hk) hi).1 q1 (by rw [q3]; exact fun h => by cases h) (v := v) ?_ rfl rfl hdg kk
  rw [hsl, q4 k hk, hv.2]
theorem m_put (X : mCx D n0 P p m c cc nL s args own meth ret) (hp : mHp D n0 S M n s H locs) {ref C : String} {T : u_T} {N ci index a : Nat} (hin : ∀ w ∈ u_ws C T N, w ∈ lw_all) (hc : mcl[ci]? = some (C, T, N)) (hci : ci < 100 ∧ ci ≠ 0) (ty0 : Nat → FieldType) (hty : ∀ k, k < N → parseFieldDescriptor (T k).2.2.1 = some (ty0 k)) (hnm : ∀ a, a < N → ∀ b, b < N → a ≠ b → (T a).2.1 ≠ (T b).2.1) (k : Nat) (hk : k < N) (hlink : Cond.fieldLink own index ref (T k).2.1 (T k).2.2.1 ∈ lw_all)
    (hsame : ∀ x, s.fieldFound? (T k).1 (T k).2.1 (T k).2.2.1 = some x → s.fieldFound? ref (T k).2.1 (T k).2.2.1 = some x) (hfin : (T k).2.2.2 = false) {v : Value} (hn : narrow (ty0 k) v = v) (hfit : fits (ty0 k) v = true) (hv : (S a).1 = ci) (hdg : decode cc pc = .ok (.putfield index, 3))
    (kk : ∀ (H1 : Heap) (locs1 : List Loc), mHp D n0 S (mu2 M a k v) n s H1 locs1 → W p l e R s m args below meth c H1 locs1 cells slots Q (F0 m (pc + 3) ls rest)) : W p l e R s m args below meth c H locs cells slots Q (F0 m pc ls (v :: .ref a :: rest)) := by
  obtain ⟨⟨hx, hb, hml, hown, hts⟩, hO, -, -⟩ := X
  have hap := va_apart (own := own) hts hin ty0 hty hnm hO.1 hc
  obtain ⟨ha, cell, q1, q2, q3, q4⟩ := hp.obj hv hci hc
  obtain ⟨hS, hfc, kC, hkC, hkind⟩ := hO.1.1 ci _ hc
  obtain ⟨cf, kf, fi, f, hi, hsl⟩ := hS k hk
  have hlay := hts _ (hin _ (u_in_lay hk))
  unfold u_lay at hlay
  rw [if_neg (by rw [hfin]; decide)] at hlay
  have hst := (u_facts hfc hkC (u_lays hts hin hk) hi).1
  have h6 := u_store hfc hkC hkind hlay hi (hty k hk) hn hfit
  refine W.putK hx hb (f := f) ⟨hown, hts _ hlink, ⟨_, _, _, hsame _ hi⟩, hst⟩ (by rw [q2]; exact h6) q1 q3 (by rw [hsl]; exact k2_hasslot (q4 k hk)) rfl rfl hdg fun H' e1 e2 e3 => ?_
  rw [hsl] at e1 ⊢
  exact kk H' _ ⟨m_upd hp.1 e2 e3 (Or.inl ⟨by rw [hv]; exact hci.1, _, by rw [hv]; exact hc, by rw [mu2_row, hv]; exact ⟨_, e1, q2, q3, t_set q4 hap hk v⟩⟩), hp.2.put e2 e3 ha⟩
theorem m_putN (X : mCx D n0 P p m c cc nL s args own meth ret) (hp : mHp D n0 S M n s H locs) {ref C host : String} {T : u_T} {N ci index a : Nat} (hin : ∀ w ∈ u_ws C T N, w ∈ lw_all) (hc : mcl[ci]? = some (C, T, N)) (hci : ci < 100 ∧ ci ≠ 0) (ty0 : Nat → FieldType) (hty : ∀ k, k < N → parseFieldDescriptor (T k).2.2.1 = some (ty0 k)) (hnm : ∀ a, a < N → ∀ b, b < N → a ≠ b → (T a).2.1 ≠ (T b).2.1) (k : Nat) (hk : k < N) (hlink : Cond.fieldLinkNest own index ref (T k).2.1 (T k).2.2.1 host ∈ lw_tbl)
    (hsame : ∀ x, s.fieldFound? (T k).1 (T k).2.1 (T k).2.2.1 = some x → s.fieldFound? ref (T k).2.1 (T k).2.2.1 = some x) (hfin : (T k).2.2.2 = false) {v : Value} (hn : narrow (ty0 k) v = v) (hfit : fits (ty0 k) v = true) (hv : (S a).1 = ci) (hdg : decode cc pc = .ok (.putfield index, 3))
    (kk : ∀ (H1 : Heap) (locs1 : List Loc), mHp D n0 S (mu2 M a k v) n s H1 locs1 → W p l e R s m args below meth c H1 locs1 cells slots Q (F0 m (pc + 3) ls rest)) : W p l e R s m args below meth c H locs cells slots Q (F0 m pc ls (v :: .ref a :: rest)) := by
  obtain ⟨⟨hx, hb, hml, hown, hts⟩, hO, -, -⟩ := X
  have hap := va_apart (own := own) hts hin ty0 hty hnm hO.1 hc
  obtain ⟨ha, cell, q1, q2, q3, q4⟩ := hp.obj hv hci hc
  obtain ⟨hS, hfc, kC, hkC, hkind⟩ := hO.1.1 ci _ hc
  obtain ⟨cf, kf, fi, f, hi, hsl⟩ := hS k hk
  have hlay := hts _ (hin _ (u_in_lay hk))
  unfold u_lay at hlay
  rw [if_neg (by rw [hfin]; decide)] at hlay
  have hst := (u_facts hfc hkC (u_lays hts hin hk) hi).1
  have h6 := u_store hfc hkC hkind hlay hi (hty k hk) hn hfit
  refine va_WputK hx hb (f := f) hown (va_Nw.use rfl (hO.2.1 _ hlink rfl)) (hsame _ hi) hst (by rw [q2]; exact h6) q1 q3 (by rw [hsl]; exact k2_hasslot (q4 k hk)) rfl rfl hdg fun H' e1 e2 e3 => ?_
  rw [hsl] at e1 ⊢
  exact kk H' _ ⟨m_upd hp.1 e2 e3 (Or.inl ⟨by rw [hv]; exact hci.1, _, by rw [hv]; exact hc, by rw [mu2_row, hv]; exact ⟨_, e1, q2, q3, t_set q4 hap hk v⟩⟩), hp.2.put e2 e3 ha⟩
/-- a final field, in its class's own constructor -/
theorem m_putF (X : mCx D n0 P p m c cc nL s args own meth ret) (hp : mHp D n0 S M n s H locs) {ref C : String} {T : u_T} {N ci index a : Nat} (hin : ∀ w ∈ u_ws C T N, w ∈ lw_all) (hc : mcl[ci]? = some (C, T, N)) (hci : ci < 100 ∧ ci ≠ 0) (ty0 : Nat → FieldType) (hty : ∀ k, k < N → parseFieldDescriptor (T k).2.2.1 = some (ty0 k)) (hnm : ∀ a, a < N → ∀ b, b < N → a ≠ b → (T a).2.1 ≠ (T b).2.1) (k : Nat) (hk : k < N) (hlink : Cond.fieldLink own index ref (T k).2.1 (T k).2.2.1 ∈ lw_all)
    (hsame : ∀ x, s.fieldFound? (T k).1 (T k).2.1 (T k).2.2.1 = some x → s.fieldFound? ref (T k).2.1 (T k).2.2.1 = some x) (hfin : (T k).2.2.2 = true) (hin2 : meth.name = "<init>") (hdecl : (T k).1 = own) {v : Value} (hn : narrow (ty0 k) v = v) (hfit : fits (ty0 k) v = true) (hv : (S a).1 = ci) (hdg : decode cc pc = .ok (.putfield index, 3))
    (kk : ∀ (H1 : Heap) (locs1 : List Loc), mHp D n0 S (mu2 M a k v) n s H1 locs1 → W p l e R s m args below meth c H1 locs1 cells slots Q (F0 m (pc + 3) ls rest)) : W p l e R s m args below meth c H locs cells slots Q (F0 m pc ls (v :: .ref a :: rest)) := by
  obtain ⟨⟨hx, hb, hml, hown, hts⟩, hO, -, -⟩ := X
  have hap := va_apart (own := own) hts hin ty0 hty hnm hO.1 hc
  obtain ⟨ha, cell, q1, q2, q3, q4⟩ := hp.obj hv hci hc
  obtain ⟨hS, hfc, kC, hkC, hkind⟩ := hO.1.1 ci _ hc
  obtain ⟨cf, kf, fi, f, hi, hsl⟩ := hS k hk
  have hlay := hts _ (hin _ (u_in_lay hk))
  unfold u_lay at hlay
  rw [if_pos hfin] at hlay
  have hst := (u_facts hfc hkC (u_lays hts hin hk) hi).1
  have hcf : m.cls = cf := by
    obtain ⟨_, _, c', _, _, _, -, -, hf', -, -, -, hown2, -⟩ := Cond.laysFinal_spec hlay
    have e1 : c' = cf := by have := hi.symm.trans hf'; simp at this; exact this.1.symm
    rw [hdecl] at hown2
    rw [← e1]; exact Option.some.inj (hown.symm.trans hown2)
  have h6 := u_fits hfc hkC hkind (Or.inr hlay) hi (hty k hk) hn hfit
  refine W.putFinK hx hb hown (hts _ hlink) (hsame _ hi) hst hcf hin2 (by rw [q2]; exact h6) q1 q3 (by rw [hsl]; exact k2_hasslot (q4 k hk)) rfl rfl hdg fun H' e1 e2 e3 => ?_
  rw [hsl] at e1 ⊢
  exact kk H' _ ⟨m_upd hp.1 e2 e3 (Or.inl ⟨by rw [hv]; exact hci.1, _, by rw [hv]; exact hc, by rw [mu2_row, hv]; exact ⟨_, e1, q2, q3, t_set q4 hap hk v⟩⟩), hp.2.put e2 e3 ha⟩
/-- what an array's read gives -/
def mEl (S : mSh) (M : mMm) (a tg : Nat) (i : Int32) (v : Value) : Prop := (S a).1 = tg ∧ vp_in i (S a).2 ∧ M a i.toNatClampNeg = v
def mIx (S : mSh) (a tg : Nat) (i : Int32) : Prop := (S a).1 = tg ∧ vp_in i (S a).2
theorem mIx.ne {a tg : Nat} {i : Int32} (h : mIx S a tg i) : (S a).2 ≠ 0 := fun z => h.2 (Or.inr (by rw [z]; exact Nat.zero_le _))
theorem m_rd (X : mCx D n0 P p m c cc nL s args own meth ret) (hp : mHp D n0 S M n s H locs) {a : Nat} (tg : Nat) {ty : FieldType} (ht : (mty D)[tg - 100]? = some (D.1 tg, ty)) (h100 : 100 ≤ tg) {i : Int32} {v : Value} (hv : mEl S M a tg i v) :
    ∃ cell : Cell, H[a]? = some cell ∧ s.isArrayOf cell ty ∧ cell.vm ≠ .unknown ∧ ¬ (i < 0 ∨ cell.slots.size ≤ i.toNatClampNeg) ∧ cell.slots[i.toNatClampNeg]? = some v := by
  obtain ⟨h1, h2, h3⟩ := hv
  refine ⟨_, (hp.arr h1 h100).2, (X.2.1.1.2 _ _ ht).1 _ _, (fun h => by cases h), by rw [arrV_size]; exact h2, ?_⟩
  have hlt : i.toNatClampNeg < (S a).2 := Nat.not_le.mp fun q => h2 (Or.inr q)
  rw [arrV_read _ _ hlt, h3]
theorem m_iald (X : mCx D n0 P p m c cc nL s args own meth ret) (hp : mHp D n0 S M n s H locs) {a : Nat} {i : Int32} {v : Value} (hv : mEl S M a 100 i v) (hdg : decode cc pc = .ok (.iaload, 1))
    (kk : W p l e R s m args below meth c H locs cells slots Q (F0 m (pc + 1) ls (v :: rest))) : W p l e R s m args below meth c H locs cells slots Q (F0 m pc ls (.int i :: .ref a :: rest)) := by
  obtain ⟨cell, h1, h2, h3, h4, h5⟩ := m_rd X hp 100 rfl (by decide) hv
  exact W.iald X.1.1 X.1.2.1 h1 h2 h3 h4 h5 rfl rfl hdg kk
theorem m_bald (X : mCx D n0 P p m c cc nL s args own meth ret) (hp : mHp D n0 S M n s H locs) {a : Nat} {i : Int32} {v : Value} (hv : mEl S M a 101 i v) (hdg : decode cc pc = .ok (.baload, 1))
    (kk : W p l e R s m args below meth c H locs cells slots Q (F0 m (pc + 1) ls (v :: rest))) : W p l e R s m args below meth c H locs cells slots Q (F0 m pc ls (.int i :: .ref a :: rest)) := by
  obtain ⟨cell, h1, h2, h3, h4, h5⟩ := m_rd X hp 101 rfl (by decide) hv
  exact W.bald X.1.1 X.1.2.1 h1 h2 h3 h4 h5 rfl rfl hdg kk
theorem m_zald (X : mCx D n0 P p m c cc nL s args own meth ret) (hp : mHp D n0 S M n s H locs) {a : Nat} {i : Int32} {v : Value} (hv : mEl S M a 102 i v) (hdg : decode cc pc = .ok (.baload, 1))
    (kk : W p l e R s m args below meth c H locs cells slots Q (F0 m (pc + 1) ls (v :: rest))) : W p l e R s m args below meth c H locs cells slots Q (F0 m pc ls (.int i :: .ref a :: rest)) := by
  obtain ⟨cell, h1, h2, h3, h4, h5⟩ := m_rd X hp 102 rfl (by decide) hv
  exact W.zald X.1.1 X.1.2.1 h1 h2 h3 h4 h5 rfl rfl hdg kk
theorem m_lald (X : mCx D n0 P p m c cc nL s args own meth ret) (hp : mHp D n0 S M n s H locs) {a : Nat} {i : Int32} {v : Value} (hv : mEl S M a 103 i v) (hdg : decode cc pc = .ok (.laload, 1))
    (kk : W p l e R s m args below meth c H locs cells slots Q (F0 m (pc + 1) ls (v :: rest))) : W p l e R s m args below meth c H locs cells slots Q (F0 m pc ls (.int i :: .ref a :: rest)) := by
  obtain ⟨cell, h1, h2, h3, h4, h5⟩ := m_rd X hp 103 rfl (by decide) hv
  exact W.lald X.1.1 X.1.2.1 h1 h2 h3 h4 h5 rfl rfl hdg kk
theorem m_aald (X : mCx D n0 P p m c cc nL s args own meth ret) (hp : mHp D n0 S M n s H locs) {a : Nat} (tg : Nat) {ty : FieldType} (ht : (mty D)[tg - 100]? = some (D.1 tg, ty)) (h100 : 100 ≤ tg) (hr : ty.isReference = true) {i : Int32} {v : Value} (hv : mEl S M a tg i v) (hdg : decode cc pc = .ok (.aaload, 1))
    (kk : W p l e R s m args below meth c H locs cells slots Q (F0 m (pc + 1) ls (v :: rest))) : W p l e R s m args below meth c H locs cells slots Q (F0 m pc ls (.int i :: .ref a :: rest)) := by
  obtain ⟨cell, h1, h2, h3, h4, h5⟩ := m_rd X hp tg ht h100 hv
  exact W.aald X.1.1 X.1.2.1 h1 h2 hr h3 h4 h5 rfl rfl hdg kk
theorem m_alen (X : mCx D n0 P p m c cc nL s args own meth ret) (hp : mHp D n0 S M n s H locs) {a : Nat} (tg : Nat) {ty : FieldType} (ht : (mty D)[tg - 100]? = some (D.1 tg, ty)) (h100 : 100 ≤ tg) (hv : (S a).1 = tg) (hdg : decode cc pc = .ok (.arraylength, 1))
    (kk : W p l e R s m args below meth c H locs cells slots Q (F0 m (pc + 1) ls (.int (nI (S a).2) :: rest))) : W p l e R s m args below meth c H locs cells slots Q (F0 m pc ls (.ref a :: rest)) :=
  W.alen X.1.1 X.1.2.1 (hp.arr hv h100).2 ((X.2.1.1.2 _ _ ht).1 _ _) (by rw [arrV_size]; rfl) rfl rfl hdg kk
theorem m_wr (hp : mHp D n0 S M n s H locs) {a k tg : Nat} {v : Value} (h1 : (S a).1 = tg) (h0 : (S a).2 ≠ 0) (h100 : 100 ≤ tg) {H1 : Heap} (e1 : H1[a]? = some ((arrV (D.1 tg) (S a).2 (M a)).setSlot k v)) (e2 : H1.size = H.size) (e3 : ∀ q, q ≠ a → H1[q]? = H[q]?) : mHp D n0 S (mu2 M a k v) n s H1 (locs ++ [⟨a, k⟩]) :=
  ⟨m_upd hp.1 e2 e3 (Or.inr ⟨by rw [h1]; exact h100, by rw [mu2_row, h1, ← arrV_store]; exact e1⟩), hp.2.put e2 e3 ((hp.arr h1 h100).1.resolve_right h0)⟩
theorem m_iast (X : mCx D n0 P p m c cc nL s args own meth ret) (hp : mHp D n0 S M n s H locs) {a : Nat} {i x : Int32} (hv : mIx S a 100 i) (hdg : decode cc pc = .ok (.iastore, 1))
    (kk : ∀ (H1 : Heap) (locs1 : List Loc), mHp D n0 S (mu2 M a i.toNatClampNeg (.int x)) n s H1 locs1 → W p l e R s m args below meth c H1 locs1 cells slots Q (F0 m (pc + 1) ls rest)) : W p l e R s m args below meth c H locs cells slots Q (F0 m pc ls (.int x :: .int i :: .ref a :: rest)) :=
  W.iast X.1.1 X.1.2.1 (hp.arr hv.1 (by decide)).2 ((X.2.1.1.2 0 _ rfl).1 _ _) (fun h => by cases h) (by rw [arrV_size]; exact hv.2) rfl rfl hdg fun H' e1 e2 e3 => kk H' _ (m_wr hp hv.1 hv.ne (by decide) e1 e2 e3)
theorem m_bast (X : mCx D n0 P p m c cc nL s args own meth ret) (hp : mHp D n0 S M n s H locs) {a : Nat} {i x : Int32} (hv : mIx S a 101 i) (hdg : decode cc pc = .ok (.bastore, 1))
    (kk : ∀ (H1 : Heap) (locs1 : List Loc), mHp D n0 S (mu2 M a i.toNatClampNeg (.int x.toInt8.toInt32)) n s H1 locs1 → W p l e R s m args below meth c H1 locs1 cells slots Q (F0 m (pc + 1) ls rest)) : W p l e R s m args below meth c H locs cells slots Q (F0 m pc ls (.int x :: .int i :: .ref a :: rest)) :=
  W.bast X.1.1 X.1.2.1 (hp.arr hv.1 (by decide)).2 ((X.2.1.1.2 1 _ rfl).1 _ _) (fun h => by cases h) (by rw [arrV_size]; exact hv.2) rfl rfl hdg fun H' e1 e2 e3 => kk H' _ (m_wr hp hv.1 hv.ne (by decide) e1 e2 e3)
theorem m_zast (X : mCx D n0 P p m c cc nL s args own meth ret) (hp : mHp D n0 S M n s H locs) {a : Nat} {i x : Int32} (hv : mIx S a 102 i) (hdg : decode cc pc = .ok (.bastore, 1))
    (kk : ∀ (H1 : Heap) (locs1 : List Loc), mHp D n0 S (mu2 M a i.toNatClampNeg (narrow .boolean (.int x))) n s H1 locs1 → W p l e R s m args below meth c H1 locs1 cells slots Q (F0 m (pc + 1) ls rest)) : W p l e R s m args below meth c H locs cells slots Q (F0 m pc ls (.int x :: .int i :: .ref a :: rest)) :=
  W.zast X.1.1 X.1.2.1 (hp.arr hv.1 (by decide)).2 ((X.2.1.1.2 2 _ rfl).1 _ _) (fun h => by cases h) (by rw [arrV_size]; exact hv.2) rfl rfl hdg fun H' e1 e2 e3 => kk H' _ (m_wr hp hv.1 hv.ne (by decide) e1 e2 e3)
theorem m_last (X : mCx D n0 P p m c cc nL s args own meth ret) (hp : mHp D n0 S M n s H locs) {a : Nat} {i : Int32} {x : Int64} (hv : mIx S a 103 i) (hdg : decode cc pc = .ok (.lastore, 1))
    (kk : ∀ (H1 : Heap) (locs1 : List Loc), mHp D n0 S (mu2 M a i.toNatClampNeg (.long x)) n s H1 locs1 → W p l e R s m args below meth c H1 locs1 cells slots Q (F0 m (pc + 1) ls rest)) : W p l e R s m args below meth c H locs cells slots Q (F0 m pc ls (.long x :: .int i :: .ref a :: rest)) :=
  W.last X.1.1 X.1.2.1 (hp.arr hv.1 (by decide)).2 ((X.2.1.1.2 3 _ rfl).1 _ _) (fun h => by cases h) (by rw [arrV_size]; exact hv.2) rfl rfl hdg fun H' e1 e2 e3 => kk H' _ (m_wr hp hv.1 hv.ne (by decide) e1 e2 e3)
/-- a reference into an array of its own class -/
theorem m_aast (X : mCx D n0 P p m c cc nL s args own meth ret) (hp : mHp D n0 S M n s H locs) {a v : Nat} (tg ci : Nat) {r : vw_C} (ht : (mty D)[tg - 100]? = some (D.1 tg, .object r.1)) (h100 : 100 ≤ tg) (hc : mcl[ci]? = some r) (hci : ci < 100 ∧ ci ≠ 0) (hv : (S v).1 = ci) {i : Int32} (ha : mIx S a tg i) (hdg : decode cc pc = .ok (.aastore, 1))
    (kk : ∀ (H1 : Heap) (locs1 : List Loc), mHp D n0 S (mu2 M a i.toNatClampNeg (.ref v)) n s H1 locs1 → W p l e R s m args below meth c H1 locs1 cells slots Q (F0 m (pc + 1) ls rest)) : W p l e R s m args below meth c H locs cells slots Q (F0 m pc ls (.ref v :: .int i :: .ref a :: rest)) := by
  obtain ⟨-, cell, q1, q2, q3, q4⟩ := hp.obj hv hci hc
  obtain ⟨hS, hfc, kC, hkC, hkind⟩ := X.2.1.1.1 ci _ hc
  obtain ⟨kA, comp, g1, g2, g3, g4⟩ := (X.2.1.1.2 _ _ ht).2
  cases hfc.symm.trans g3
  have hlt : ¬ i < 0 ∧ i.toNatClampNeg < (S a).2 := ⟨fun q => ha.2 (Or.inl q), Nat.not_le.mp fun q => ha.2 (Or.inr q)⟩
  exact W.aast X.1.1 X.1.2.1 (hp.arr ha.1 h100).2 (fun q h => by cases h) (fun h => by cases h) g1 g2 rfl hkC (by rw [arrV_size]; exact hlt) q1 (fun q h => by rw [q3] at h; cases h) (by rw [q2]; exact hkC) (by rw [q2]; exact va_asg _ _) rfl rfl hdg fun H' e1 e2 e3 => kk H' _ (m_wr hp ha.1 ha.ne h100 e1 e2 e3)
/-- a reference into an array of a class that its own can be cast to -/
theorem m_aastC (X : mCx D n0 P p m c cc nL s args own meth ret) (hp : mHp D n0 S M n s H locs) {a v : Nat} (tg ci : Nat) {r : vw_C} {E : String} (ht : (mty D)[tg - 100]? = some (D.1 tg, .object E)) (h100 : 100 ≤ tg) (hc : mcl[ci]? = some r) (hci : ci < 100 ∧ ci ≠ 0) (hcast : Cond.castable r.1 E ∈ lw_tbl) (hv : (S v).1 = ci) {i : Int32} (ha : mIx S a tg i) (hdg : decode cc pc = .ok (.aastore, 1))
    (kk : ∀ (H1 : Heap) (locs1 : List Loc), mHp D n0 S (mu2 M a i.toNatClampNeg (.ref v)) n s H1 locs1 → W p l e R s m args below meth c H1 locs1 cells slots Q (F0 m (pc + 1) ls rest)) : W p l e R s m args below meth c H locs cells slots Q (F0 m pc ls (.ref v :: .int i :: .ref a :: rest)) := by
  obtain ⟨-, cell, q1, q2, q3, q4⟩ := hp.obj hv hci hc
  obtain ⟨hS, hfc, kC, hkC, hkind⟩ := X.2.1.1.1 ci _ hc
  obtain ⟨kA, comp, g1, g2, g3, g4⟩ := (X.2.1.1.2 _ _ ht).2
  obtain ⟨cE, kE, f1, f2⟩ : ∃ (cE : ClassId) (kE : Class), s.vm.findClass E = some cE ∧ s.vm.classes[cE]? = some kE := by
    obtain ⟨kE, hkE, -⟩ := Vm.findClass_spec g3
    exact ⟨comp, kE, g3, hkE⟩
  cases f1.symm.trans g3
  have hlt : ¬ i < 0 ∧ i.toNatClampNeg < (S a).2 := ⟨fun q => ha.2 (Or.inl q), Nat.not_le.mp fun q => ha.2 (Or.inr q)⟩
  exact W.aast X.1.1 X.1.2.1 (hp.arr ha.1 h100).2 (fun q h => by cases h) (fun h => by cases h) g1 g2 rfl f2 (by rw [arrV_size]; exact hlt) q1 (fun q h => by rw [q3] at h; cases h) (by rw [q2]; exact hkC) (by rw [q2]; exact vb_asgC (X.2.1.2.1 _ hcast rfl) _ _ g3 hfc) rfl rfl hdg fun H' e1 e2 e3 => kk H' _ (m_wr hp ha.1 ha.ne h100 e1 e2 e3)
end MROW
