/-! THE LAYER's ROWS by the pure words: each takes the equation of its word -/
set_option maxRecDepth 100000
def mCl (ci : Nat) (C : String) (T : u_T) (N : Nat) (ty0 : Nat → FieldType) : Prop := (∀ w ∈ u_ws C T N, w ∈ lw_all) ∧ mcl[ci]? = some (C, T, N) ∧ (ci < 100 ∧ ci ≠ 0) ∧ (∀ k, k < N → parseFieldDescriptor (T k).2.2.1 = some (ty0 k)) ∧ (∀ a, a < N → ∀ b, b < N → a ≠ b → (T a).2.1 ≠ (T b).2.1)
theorem kX0 : mCl 1 RX0 TX0 30 tyX0 := ⟨in_X0, rfl, by decide, tyX0_ok, nmX0⟩
theorem kX1 : mCl 2 RX1 TX1 19 tyX1 := ⟨in_X1, rfl, by decide, tyX1_ok, nmX1⟩
theorem kX2 : mCl 3 RX2 TX2 3 tyX2 := ⟨in_X2, rfl, by decide, tyX2_ok, nmX2⟩
theorem kX3 : mCl 4 RX3 TX3 2 tyX3 := ⟨in_X3, rfl, by decide, tyX3_ok, nmX3⟩
theorem kX4 : mCl 5 RX4 TX4 11 tyX4 := ⟨in_X4, rfl, by decide, tyX4_ok, nmX4⟩
theorem kX5 : mCl 6 RX5 TX5 40 tyX5 := ⟨in_X5, rfl, by decide, tyX5_ok, nmX5⟩
theorem kX6 : mCl 7 RX6 TX6 10 tyX6 := ⟨in_X6, rfl, by decide, tyX6_ok, nmX6⟩
theorem in_X7k : ∀ w ∈ u_ws RX7 TX7k 2, w ∈ lw_all := lw_in (u_ws RX7 TX7k 2) [795, 797] (by decide +kernel) (by decide +kernel)
theorem kX7 : mCl 8 RX7 TX7k 2 tyX7k := ⟨in_X7k, rfl, by decide, by decide +kernel, by decide +kernel⟩
theorem kX9 : mCl 9 RX9 TX9 1 tyX9 := ⟨in_X9, rfl, by decide, tyX9_ok, nmX9⟩
theorem kX10 : mCl 10 RX10 TX10 1 tyX10 := ⟨in_X10, rfl, by decide, tyX10_ok, nmX10⟩
theorem kX11 : mCl 11 RX11 TX11 3 tyX11 := ⟨in_X11, rfl, by decide, tyX11_ok, nmX11⟩
theorem kX12 : mCl 12 RX12 TX12 1 tyX12 := ⟨in_X12, rfl, by decide, tyX12_ok, nmX12⟩
theorem kX13 : mCl 13 RX13 TX13 3 tyX13 := ⟨in_X13, rfl, by decide, tyX13_ok, nmX13⟩
theorem kX14 : mCl 14 RX14 TX14 2 tyX14 := ⟨in_X14, rfl, by decide, tyX14_ok, nmX14⟩
theorem kJ2 : mCl 15 RJ2 TJ2 3 tyJ2 := ⟨in_J2, rfl, by decide, tyJ2_ok, nmJ2⟩
/-- an int that is a boolean -/
def bz (x : Int32) : Prop := narrow .boolean (.int x) = .int x
theorem bz_0 : bz 0 := by unfold bz; rfl
theorem bz_1 : bz 1 := by unfold bz; rfl
theorem bz_iff (x : Int32) : bz x ↔ x &&& 1 = x := by
  unfold bz
  show Value.int (x &&& 1) = .int x ↔ _
  exact ⟨fun h => Value.int.inj h, fun h => by rw [h]⟩
section MWRAP
variable {p : Program} {l : Launch} {e : Env} {R : Room} {s : State} {m : MethodId} {args : Array Value} {below : List Frame} {meth : Method} {c : Code} {H : Heap} {locs : List Loc} {cells slots : Nat} {Q : State → Prop}
variable {cc : ByteArray} {nL pc : Nat} {ls : Array Slot} {rest : List Value} {D : va_G} {n0 : Nat} {P : mP} {S : mSh} {M M1 : mMm} {n : Nat} {own : String} {ret : Option FieldType}
variable {C host : String} {T : u_T} {N ci index a k : Nat} {ty0 : Nat → FieldType} {i x : Int32} {y v : Nat}
theorem m_getI (X : mCx D n0 P p m c cc nL s args own meth ret) (hp : mHp D n0 S M n s H locs) (h : rI S M a ci k = some x) (hC : mCl ci C T N ty0) (hk : k < N) (hlink : Cond.fieldLink own index (T k).1 (T k).2.1 (T k).2.2.1 ∈ lw_all) (hdg : decode cc pc = .ok (.getfield index, 3))
    (kk : W p l e R s m args below meth c H locs cells slots Q (F0 m (pc + 3) ls (.int x :: rest))) : W p l e R s m args below meth c H locs cells slots Q (F0 m pc ls (.ref a :: rest)) := m_get X hp hC.1 hC.2.1 hC.2.2.1 k hk hlink (fun _ h => h) (rI_s h) hdg kk
theorem m_getR (X : mCx D n0 P p m c cc nL s args own meth ret) (hp : mHp D n0 S M n s H locs) (h : rR S M a ci k = some y) (hC : mCl ci C T N ty0) (hk : k < N) (hlink : Cond.fieldLink own index (T k).1 (T k).2.1 (T k).2.2.1 ∈ lw_all) (hdg : decode cc pc = .ok (.getfield index, 3))
    (kk : W p l e R s m args below meth c H locs cells slots Q (F0 m (pc + 3) ls (.ref y :: rest))) : W p l e R s m args below meth c H locs cells slots Q (F0 m pc ls (.ref a :: rest)) := m_get X hp hC.1 hC.2.1 hC.2.2.1 k hk hlink (fun _ h => h) (rR_s h) hdg kk
theorem m_getIN (X : mCx D n0 P p m c cc nL s args own meth ret) (hp : mHp D n0 S M n s H locs) (h : rI S M a ci k = some x) (hC : mCl ci C T N ty0) (hk : k < N) (hlink : Cond.fieldLinkNest own index (T k).1 (T k).2.1 (T k).2.2.1 host ∈ lw_tbl) (hdg : decode cc pc = .ok (.getfield index, 3))
    (kk : W p l e R s m args below meth c H locs cells slots Q (F0 m (pc + 3) ls (.int x :: rest))) : W p l e R s m args below meth c H locs cells slots Q (F0 m pc ls (.ref a :: rest)) := m_getN X hp hC.1 hC.2.1 hC.2.2.1 k hk hlink (fun _ h => h) (rI_s h) hdg kk
theorem m_getRN (X : mCx D n0 P p m c cc nL s args own meth ret) (hp : mHp D n0 S M n s H locs) (h : rR S M a ci k = some y) (hC : mCl ci C T N ty0) (hk : k < N) (hlink : Cond.fieldLinkNest own index (T k).1 (T k).2.1 (T k).2.2.1 host ∈ lw_tbl) (hdg : decode cc pc = .ok (.getfield index, 3))
    (kk : W p l e R s m args below meth c H locs cells slots Q (F0 m (pc + 3) ls (.ref y :: rest))) : W p l e R s m args below meth c H locs cells slots Q (F0 m pc ls (.ref a :: rest)) := m_getN X hp hC.1 hC.2.1 hC.2.2.1 k hk hlink (fun _ h => h) (rR_s h) hdg kk
theorem m_putW {v : Value} (X : mCx D n0 P p m c cc nL s args own meth ret) (hp : mHp D n0 S M n s H locs) (h : wF S M a ci k v = some M1) (hC : mCl ci C T N ty0) (hk : k < N) (hlink : Cond.fieldLink own index (T k).1 (T k).2.1 (T k).2.2.1 ∈ lw_all) (hfin : (T k).2.2.2 = false) (hn : narrow (ty0 k) v = v) (hfit : fits (ty0 k) v = true) (hdg : decode cc pc = .ok (.putfield index, 3))
    (kk : ∀ (H1 : Heap) (locs1 : List Loc), mHp D n0 S M1 n s H1 locs1 → W p l e R s m args below meth c H1 locs1 cells slots Q (F0 m (pc + 3) ls rest)) : W p l e R s m args below meth c H locs cells slots Q (F0 m pc ls (v :: .ref a :: rest)) :=
  m_put X hp hC.1 hC.2.1 hC.2.2.1 ty0 hC.2.2.2.1 hC.2.2.2.2 k hk hlink (fun _ h => h) hfin hn hfit (wF_s h).1 hdg (fun H1 l1 g => kk H1 l1 (by rw [(wF_s h).2]; exact g))
theorem m_putWN {v : Value} (X : mCx D n0 P p m c cc nL s args own meth ret) (hp : mHp D n0 S M n s H locs) (h : wF S M a ci k v = some M1) (hC : mCl ci C T N ty0) (hk : k < N) (hlink : Cond.fieldLinkNest own index (T k).1 (T k).2.1 (T k).2.2.1 host ∈ lw_tbl) (hfin : (T k).2.2.2 = false) (hn : narrow (ty0 k) v = v) (hfit : fits (ty0 k) v = true) (hdg : decode cc pc = .ok (.putfield index, 3))
    (kk : ∀ (H1 : Heap) (locs1 : List Loc), mHp D n0 S M1 n s H1 locs1 → W p l e R s m args below meth c H1 locs1 cells slots Q (F0 m (pc + 3) ls rest)) : W p l e R s m args below meth c H locs cells slots Q (F0 m pc ls (v :: .ref a :: rest)) :=
  m_putN X hp hC.1 hC.2.1 hC.2.2.1 ty0 hC.2.2.2.1 hC.2.2.2.2 k hk hlink (fun _ h => h) hfin hn hfit (wF_s h).1 hdg (fun H1 l1 g => kk H1 l1 (by rw [(wF_s h).2]; exact g))
theorem m_putWF {v : Value} (X : mCx D n0 P p m c cc nL s args own meth ret) (hp : mHp D n0 S M n s H locs) (h : wF S M a ci k v = some M1) (hC : mCl ci C T N ty0) (hk : k < N) (hlink : Cond.fieldLink own index (T k).1 (T k).2.1 (T k).2.2.1 ∈ lw_all) (hfin : (T k).2.2.2 = true) (hin2 : meth.name = "<init>") (hdecl : (T k).1 = own) (hn : narrow (ty0 k) v = v) (hfit : fits (ty0 k) v = true) (hdg : decode cc pc = .ok (.putfield index, 3))
    (kk : ∀ (H1 : Heap) (locs1 : List Loc), mHp D n0 S M1 n s H1 locs1 → W p l e R s m args below meth c H1 locs1 cells slots Q (F0 m (pc + 3) ls rest)) : W p l e R s m args below meth c H locs cells slots Q (F0 m pc ls (v :: .ref a :: rest)) :=
  m_putF X hp hC.1 hC.2.1 hC.2.2.1 ty0 hC.2.2.2.1 hC.2.2.2.2 k hk hlink (fun _ h => h) hfin hin2 hdecl hn hfit (wF_s h).1 hdg (fun H1 l1 g => kk H1 l1 (by rw [(wF_s h).2]; exact g))
theorem m_iaI (X : mCx D n0 P p m c cc nL s args own meth ret) (hp : mHp D n0 S M n s H locs) (h : aI S M a 100 i = some x) (hdg : decode cc pc = .ok (.iaload, 1))
    (kk : W p l e R s m args below meth c H locs cells slots Q (F0 m (pc + 1) ls (.int x :: rest))) : W p l e R s m args below meth c H locs cells slots Q (F0 m pc ls (.int i :: .ref a :: rest)) := m_iald X hp (aI_s h) hdg kk
theorem m_baI (X : mCx D n0 P p m c cc nL s args own meth ret) (hp : mHp D n0 S M n s H locs) (h : aI S M a 101 i = some x) (hdg : decode cc pc = .ok (.baload, 1))
    (kk : W p l e R s m args below meth c H locs cells slots Q (F0 m (pc + 1) ls (.int x :: rest))) : W p l e R s m args below meth c H locs cells slots Q (F0 m pc ls (.int i :: .ref a :: rest)) := m_bald X hp (aI_s h) hdg kk
theorem m_zaI (X : mCx D n0 P p m c cc nL s args own meth ret) (hp : mHp D n0 S M n s H locs) (h : aI S M a 102 i = some x) (hdg : decode cc pc = .ok (.baload, 1))
    (kk : W p l e R s m args below meth c H locs cells slots Q (F0 m (pc + 1) ls (.int x :: rest))) : W p l e R s m args below meth c H locs cells slots Q (F0 m pc ls (.int i :: .ref a :: rest)) := m_zald X hp (aI_s h) hdg kk
theorem m_laL {x : Int64} (X : mCx D n0 P p m c cc nL s args own meth ret) (hp : mHp D n0 S M n s H locs) (h : aL S M a 103 i = some x) (hdg : decode cc pc = .ok (.laload, 1))
    (kk : W p l e R s m args below meth c H locs cells slots Q (F0 m (pc + 1) ls (.long x :: rest))) : W p l e R s m args below meth c H locs cells slots Q (F0 m pc ls (.int i :: .ref a :: rest)) := m_lald X hp (aL_s h) hdg kk
theorem m_aaR (tg : Nat) {ty : FieldType} (X : mCx D n0 P p m c cc nL s args own meth ret) (hp : mHp D n0 S M n s H locs) (h : aR S M a tg i = some y) (ht : (mty D)[tg - 100]? = some (D.1 tg, ty)) (h100 : 100 ≤ tg) (hr : ty.isReference = true) (hdg : decode cc pc = .ok (.aaload, 1))
    (kk : W p l e R s m args below meth c H locs cells slots Q (F0 m (pc + 1) ls (.ref y :: rest))) : W p l e R s m args below meth c H locs cells slots Q (F0 m pc ls (.int i :: .ref a :: rest)) := m_aald X hp tg ht h100 hr (aR_s h) hdg kk
theorem m_aln (tg : Nat) {ty : FieldType} (X : mCx D n0 P p m c cc nL s args own meth ret) (hp : mHp D n0 S M n s H locs) (h : aN S a tg = some x) (ht : (mty D)[tg - 100]? = some (D.1 tg, ty)) (h100 : 100 ≤ tg) (hdg : decode cc pc = .ok (.arraylength, 1))
    (kk : W p l e R s m args below meth c H locs cells slots Q (F0 m (pc + 1) ls (.int x :: rest))) : W p l e R s m args below meth c H locs cells slots Q (F0 m pc ls (.ref a :: rest)) := m_alen X hp tg ht h100 (aN_s h).1 hdg (by rw [(aN_s h).2]; exact kk)
theorem m_iaW (X : mCx D n0 P p m c cc nL s args own meth ret) (hp : mHp D n0 S M n s H locs) (h : wA S M a 100 i (.int x) = some M1) (hdg : decode cc pc = .ok (.iastore, 1))
    (kk : ∀ (H1 : Heap) (locs1 : List Loc), mHp D n0 S M1 n s H1 locs1 → W p l e R s m args below meth c H1 locs1 cells slots Q (F0 m (pc + 1) ls rest)) : W p l e R s m args below meth c H locs cells slots Q (F0 m pc ls (.int x :: .int i :: .ref a :: rest)) := m_iast X hp (wA_s h).1 hdg (fun H1 l1 g => kk H1 l1 (by rw [(wA_s h).2]; exact g))
theorem m_baW (X : mCx D n0 P p m c cc nL s args own meth ret) (hp : mHp D n0 S M n s H locs) (h : wA S M a 101 i (.int x.toInt8.toInt32) = some M1) (hdg : decode cc pc = .ok (.bastore, 1))
    (kk : ∀ (H1 : Heap) (locs1 : List Loc), mHp D n0 S M1 n s H1 locs1 → W p l e R s m args below meth c H1 locs1 cells slots Q (F0 m (pc + 1) ls rest)) : W p l e R s m args below meth c H locs cells slots Q (F0 m pc ls (.int x :: .int i :: .ref a :: rest)) := m_bast X hp (wA_s h).1 hdg (fun H1 l1 g => kk H1 l1 (by rw [(wA_s h).2]; exact g))
theorem m_zaW (X : mCx D n0 P p m c cc nL s args own meth ret) (hp : mHp D n0 S M n s H locs) (h : wA S M a 102 i (.int (x &&& 1)) = some M1) (hdg : decode cc pc = .ok (.bastore, 1))
    (kk : ∀ (H1 : Heap) (locs1 : List Loc), mHp D n0 S M1 n s H1 locs1 → W p l e R s m args below meth c H1 locs1 cells slots Q (F0 m (pc + 1) ls rest)) : W p l e R s m args below meth c H locs cells slots Q (F0 m pc ls (.int x :: .int i :: .ref a :: rest)) := m_zast X hp (wA_s h).1 hdg (fun H1 l1 g => kk H1 l1 (by rw [(wA_s h).2]; exact g))
theorem m_laW {x : Int64} (X : mCx D n0 P p m c cc nL s args own meth ret) (hp : mHp D n0 S M n s H locs) (h : wA S M a 103 i (.long x) = some M1) (hdg : decode cc pc = .ok (.lastore, 1))
    (kk : ∀ (H1 : Heap) (locs1 : List Loc), mHp D n0 S M1 n s H1 locs1 → W p l e R s m args below meth c H1 locs1 cells slots Q (F0 m (pc + 1) ls rest)) : W p l e R s m args below meth c H locs cells slots Q (F0 m pc ls (.long x :: .int i :: .ref a :: rest)) := m_last X hp (wA_s h).1 hdg (fun H1 l1 g => kk H1 l1 (by rw [(wA_s h).2]; exact g))
theorem m_aaW (tg ci : Nat) {r : vw_C} (X : mCx D n0 P p m c cc nL s args own meth ret) (hp : mHp D n0 S M n s H locs) (h : wA S M a tg i (.ref v) = some M1) (ht : (mty D)[tg - 100]? = some (D.1 tg, .object r.1)) (h100 : 100 ≤ tg) (hc : mcl[ci]? = some r) (hci : ci < 100 ∧ ci ≠ 0) (hv : (S v).1 = ci) (hdg : decode cc pc = .ok (.aastore, 1))
    (kk : ∀ (H1 : Heap) (locs1 : List Loc), mHp D n0 S M1 n s H1 locs1 → W p l e R s m args below meth c H1 locs1 cells slots Q (F0 m (pc + 1) ls rest)) : W p l e R s m args below meth c H locs cells slots Q (F0 m pc ls (.ref v :: .int i :: .ref a :: rest)) := m_aast X hp tg ci ht h100 hc hci hv (wA_s h).1 hdg (fun H1 l1 g => kk H1 l1 (by rw [(wA_s h).2]; exact g))
end MWRAP
/-- out of a table's range -/
theorem tb_out {x : Int32} {lo hi : Int} (k : Nat) (hk : hi = lo + k) (hr : -2147483648 ≤ lo ∧ hi ≤ 2147483647) (h : ∀ j : Nat, j ≤ k → ¬ x = Int32.ofInt (lo + j)) : x.toInt < lo ∨ hi < x.toInt := by
  by_cases h1 : x.toInt < lo
  · exact Or.inl h1
  · by_cases h2 : hi < x.toInt
    · exact Or.inr h2
    · refine absurd ?_ (h (x.toInt - lo).toNat (by omega))
      have e : lo + ((x.toInt - lo).toNat : Int) = x.toInt := by omega
      rw [e]
      exact (Int32.ofInt_toInt x).symm
