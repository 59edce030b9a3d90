set_option maxRecDepth 100000
section
variable {l : Launch} {D : va_G} {n0 : Nat} {P : mP} {S : mSh} {M : mMm} {n : Nat} {p : Program} {e : Env} {s : State} {m : MethodId} {args : Array Value} {below : List Frame} {meth : Method} {c : Code}
abbrev Rm_J0_init : Room := { frames := 1, cells := 0, slots := 0, locals := 60 }
def f_J0_init (S : mSh) (M : mMm) (x0 : Nat) : Option Unit := some ()
theorem w_J0_init {x0 : Nat} (hF : f_J0_init S M x0 = some ()) : mCt l D n0 P yJ0_init cJ0_init 1 none 1 60 0 0 [.ref x0] S M n none S M n := by
  refine m_ofW (by decide) (Nat.le_of_ble_eq_true rfl) (fun p e s m below meth c X hnm hp ls hl => ?_)
  have hx := X.1.1
  have hb := X.1.2.1
  have hown := X.1.2.2.2.1
  have hts := X.1.2.2.2.2
  have hl : lv_has ls 1 [(0, .ref x0)] := hl
  unfold f_J0_init at hF
  refine lv_aload_n hx hb dJ0_init_0 rfl (lv_at hl 0 rfl) ?_
  refine m_objInit X q231 q168 q169 hl.1 (Nat.le_of_ble_eq_true rfl) (Nat.le_of_ble_eq_true rfl) dJ0_init_1 ?_
  cases hF
  exact m_vret X hp dJ0_init_4
end
section
variable {l : Launch} {D : va_G} {n0 : Nat} {P : mP} {S : mSh} {M : mMm} {n : Nat} {p : Program} {e : Env} {s : State} {m : MethodId} {args : Array Value} {below : List Frame} {meth : Method} {c : Code}
abbrev Rm_J1_init : Room := { frames := 2, cells := 0, slots := 0, locals := 80 }
def f_J1_init (S : mSh) (M : mMm) (x0 : Nat) : Option mMm := ob (f_J0_init S M x0) fun _ => ob (wF S M x0 15 0 (.int (0 : Int32))) fun M3 => some M3
theorem w_J1_init {x0 : Nat} {M' : mMm} (hF : f_J1_init S M x0 = some M') : mCt l D n0 P yJ1_init cJ1_init 1 none 2 80 0 0 [.ref x0] S M n none S M' n := by
  refine m_ofW (by decide) (Nat.le_of_ble_eq_true rfl) (fun p e s m below meth c X hnm hp ls hl => ?_)
  have hx := X.1.1
  have hb := X.1.2.1
  have hown := X.1.2.2.2.1
  have hts := X.1.2.2.2.2
  have hl : lv_has ls 1 [(0, .ref x0)] := hl
  unfold f_J1_init at hF
  refine lv_aload_n hx hb dJ1_init_0 rfl (lv_at hl 0 rfl) ?_
  obtain ⟨_, e1, hF⟩ := ob_s hF
  refine m_callI (As := []) (rest := []) X hp (w_J0_init e1) q228 q229 q136 q230 rfl 0 rfl ds_J0_init ⟨Nat.le_of_ble_eq_true rfl, Nat.le_of_ble_eq_true rfl⟩ hl.1 rfl (Nat.le_of_ble_eq_true rfl) dJ1_init_1 ⟨Nat.le_refl 0, Nat.le_refl 0⟩ (fun H locs hp => ?_)
  refine lv_aload_n hx hb dJ1_init_4 rfl (lv_at hl 0 rfl) ?_
  refine lv_iconst (v := 0) hx hb dJ1_init_5 (by decide) ?_
  obtain ⟨M3, e4, hF⟩ := ob_s hF
  refine m_putW X hp e4 kJ2 (Nat.le_of_ble_eq_true rfl) q236 rfl rfl rfl dJ1_init_6 (fun H locs hp => ?_)
  cases hF
  exact m_vret X hp dJ1_init_9
end
section
variable {l : Launch} {D : va_G} {n0 : Nat} {P : mP} {V : Nat → Nat} {p : Program} {e : Env} {s : State} {m : MethodId} {args : Array Value} {below : List Frame} {meth : Method} {c : Code}
abbrev Rm_J5_copyOf_2 (mc ms : Nat) : Room := { frames := 1, cells := mc, slots := ms, locals := 60 }
def fb_J5_copyOf_2_24 (V : Nat → Nat) (S : mSh) (M : mMm) (n z : Nat) (x0 : Nat) (x1 : Int32) (y0 : Nat) : Option (Nat × mSh × mMm × Nat × Nat) := ob (aN S x0 107) fun v3 => ob (f_J4_min v3 x1) fun v6 => ob (cpO S M x0 (0 : Int32) y0 (0 : Int32) v6) fun M7 => some (y0, S, M7, n, z)
theorem mn_J5_copyOf_2_24 {r : Nat} {S' : mSh} {M' : mMm} {n' z' : Nat} : ∀ {S : mSh} {M : mMm} {n z : Nat} {x0 : Nat} {x1 : Int32} {y0 : Nat}, fb_J5_copyOf_2_24 V S M n z x0 x1 y0 = some (r, S', M', n', z') → n ≤ n' ∧ z ≤ z' := by
  intro S M n z x0 x1 y0 hF
  unfold fb_J5_copyOf_2_24 at hF
  obtain ⟨v3, e4, hF⟩ := ob_s hF
  obtain ⟨v6, e5, hF⟩ := ob_s hF
  obtain ⟨M7, e8, hF⟩ := ob_s hF
  cases hF
  exact ⟨Nat.le_refl _, Nat.le_refl _⟩
theorem b_J5_copyOf_2_24 {r : Nat} {S' : mSh} {M' : mMm} {n' z' : Nat} {nS zS : Nat} (hV : mV V n0 P) (X : mCx D n0 P p m c cJ5_copyOf_2 4 s args yJ5_copyOf_2.cls meth (some (.array (.object "java/lang/Object")))) : ∀ (S : mSh) (M : mMm) (n z : Nat) (x0 : Nat) (x1 : Int32) (y0 : Nat) (H : Heap) (locs : List Loc) (ls : Array Slot), nS ≤ n → zS ≤ z → mHp D n0 S M n s H locs → lv_has ls 4 [(0, .ref x0), (1, .int x1)] → fb_J5_copyOf_2_24 V S M n z x0 x1 y0 = some (r, S', M', n', z') → W p l e (Rm_J5_copyOf_2 (n' - nS) (z' - zS)) s m args below meth c H locs (n - nS) (z - zS) (MQ below (mQ D n0 (some (.ref r)) S' M' n') args s (n' - nS) (z' - zS) (mA n0)) (F0 m 24 ls [.ref y0]) := by
  have hx := X.1.1
  have hb := X.1.2.1
  have hown := X.1.2.2.2.1
  have hts := X.1.2.2.2.2
  intro S M n z x0 x1 y0 H locs ls hn hz hp hl hF
  have hm0 := mn_J5_copyOf_2_24 hF
  unfold fb_J5_copyOf_2_24 at hF
  refine lv_astore_n (lv' := [(3, .ref y0), (0, .ref x0), (1, .int x1)]) hx hb dJ5_copyOf_2_24 rfl hl (by decide) rfl (fun ls hl => ?_)
  refine lv_aload_n hx hb dJ5_copyOf_2_25 rfl (lv_at hl 1 rfl) ?_
  refine lv_iconst (v := 0) hx hb dJ5_copyOf_2_26 (by decide) ?_
  refine lv_aload_n hx hb dJ5_copyOf_2_27 rfl (lv_at hl 0 rfl) ?_
  refine lv_iconst (v := 0) hx hb dJ5_copyOf_2_28 (by decide) ?_
  refine lv_aload_n hx hb dJ5_copyOf_2_29 rfl (lv_at hl 1 rfl) ?_
  obtain ⟨v3, e4, hF⟩ := ob_s hF
  refine m_aln 107 X hp e4 rfl (by decide) dJ5_copyOf_2_30 ?_
  refine lv_iload_n hx hb dJ5_copyOf_2_31 rfl (lv_at hl 2 rfl) ?_
  obtain ⟨v6, e5, hF⟩ := ob_s hF
  refine m_callS (As := [.int v3, .int x1]) (rest := [.int (0 : Int32), .ref y0, .int (0 : Int32), .ref x0]) X hp (w_J4_min e5) q367 q368 q141 q369 2 rfl ds_J4_min ⟨Nat.le_of_ble_eq_true rfl, Nat.le_of_ble_eq_true rfl⟩ hl.1 rfl (Nat.le_of_ble_eq_true rfl) dJ5_copyOf_2_32 ⟨by show _ + 0 ≤ n' - nS; omega, by show _ + 0 ≤ z' - zS; omega⟩ (fun H locs hp => ?_)
  obtain ⟨M7, e8, hF⟩ := ob_s hF
  refine m_copyO X hp e8 q370 q372 q371 q143 hl.1 (Nat.le_of_ble_eq_true rfl) (Nat.le_trans (Nat.le_of_eq (Nat.zero_add _)) acw) dJ5_copyOf_2_35 (fun H locs hp => ?_)
  refine lv_aload_n hx hb dJ5_copyOf_2_38 rfl (lv_at hl 0 rfl) ?_
  cases hF
  exact m_aret X hp (Or.inr ⟨_, rfl⟩) dJ5_copyOf_2_39
def fb_J5_copyOf_2_10 (V : Nat → Nat) (S : mSh) (M : mMm) (n z : Nat) (x0 : Nat) (x1 : Int32) (y0 : Nat) : Option (Nat × mSh × mMm × Nat × Nat) := (fb_J5_copyOf_2_24 V S M n z x0 x1 y0)
theorem mn_J5_copyOf_2_10 {r : Nat} {S' : mSh} {M' : mMm} {n' z' : Nat} : ∀ {S : mSh} {M : mMm} {n z : Nat} {x0 : Nat} {x1 : Int32} {y0 : Nat}, fb_J5_copyOf_2_10 V S M n z x0 x1 y0 = some (r, S', M', n', z') → n ≤ n' ∧ z ≤ z' := by
  intro S M n z x0 x1 y0 hF
  unfold fb_J5_copyOf_2_10 at hF
  have h9 := (mn_J5_copyOf_2_24 (V := V)) hF
  exact ⟨by omega, by omega⟩
theorem b_J5_copyOf_2_10 {r : Nat} {S' : mSh} {M' : mMm} {n' z' : Nat} {nS zS : Nat} (hV : mV V n0 P) (X : mCx D n0 P p m c cJ5_copyOf_2 4 s args yJ5_copyOf_2.cls meth (some (.array (.object "java/lang/Object")))) : ∀ (S : mSh) (M : mMm) (n z : Nat) (x0 : Nat) (x1 : Int32) (y0 : Nat) (H : Heap) (locs : List Loc) (ls : Array Slot), nS ≤ n → zS ≤ z → mHp D n0 S M n s H locs → lv_has ls 4 [(0, .ref x0), (1, .int x1)] → fb_J5_copyOf_2_10 V S M n z x0 x1 y0 = some (r, S', M', n', z') → W p l e (Rm_J5_copyOf_2 (n' - nS) (z' - zS)) s m args below meth c H locs (n - nS) (z - zS) (MQ below (mQ D n0 (some (.ref r)) S' M' n') args s (n' - nS) (z' - zS) (mA n0)) (F0 m 10 ls [.ref y0]) := by
  have hx := X.1.1
  have hb := X.1.2.1
  have hown := X.1.2.2.2.1
  have hts := X.1.2.2.2.2
  intro S M n z x0 x1 y0 H locs ls hn hz hp hl hF
  have hm0 := mn_J5_copyOf_2_10 hF
  unfold fb_J5_copyOf_2_10 at hF
  refine lv_goto (tgt := 24) hx hb dJ5_copyOf_2_10 (by decide) ?_
  exact b_J5_copyOf_2_24 hV X _ _ _ _ _ _ _ _ _ _ (by omega) (by omega) hp (lv_sub hl [0, 1] rfl) hF
def fb_J5_copyOf_2_0 (V : Nat → Nat) (S : mSh) (M : mMm) (n z : Nat) (x0 : Nat) (x1 : Int32) (x2 : Nat) : Option (Nat × mSh × mMm × Nat × Nat) := (if x2 = (V 1) then gd (¬ x1 < 0 ∧ x1.toNatClampNeg ≤ 1000000) ((fb_J5_copyOf_2_10 V (mS1 S n (107, x1.toNatClampNeg)) (mM1 M n fun _ => .null) (n + 1) (z + x1.toNatClampNeg) x0 x1 n)) else none)
theorem mn_J5_copyOf_2_0 {r : Nat} {S' : mSh} {M' : mMm} {n' z' : Nat} : ∀ {S : mSh} {M : mMm} {n z : Nat} {x0 : Nat} {x1 : Int32} {x2 : Nat}, fb_J5_copyOf_2_0 V S M n z x0 x1 x2 = some (r, S', M', n', z') → n ≤ n' ∧ z ≤ z' := by
  intro S M n z x0 x1 x2 hF
  unfold fb_J5_copyOf_2_0 at hF
  rcases (Decidable.em (x2 = (V 1))).symm with c1 | c1
  · have hF := if_n c1 hF
    cases hF
  · have hF := if_p c1 hF
    obtain ⟨g2, hF⟩ := gd_s hF
    have h9 := (mn_J5_copyOf_2_10 (V := V)) hF
    exact ⟨by omega, by omega⟩
theorem b_J5_copyOf_2_0 {r : Nat} {S' : mSh} {M' : mMm} {n' z' : Nat} {nS zS : Nat} (hV : mV V n0 P) (X : mCx D n0 P p m c cJ5_copyOf_2 4 s args yJ5_copyOf_2.cls meth (some (.array (.object "java/lang/Object")))) : ∀ (S : mSh) (M : mMm) (n z : Nat) (x0 : Nat) (x1 : Int32) (x2 : Nat) (H : Heap) (locs : List Loc) (ls : Array Slot), nS ≤ n → zS ≤ z → mHp D n0 S M n s H locs → lv_has ls 4 [(0, .ref x0), (1, .int x1), (2, .ref x2)] → fb_J5_copyOf_2_0 V S M n z x0 x1 x2 = some (r, S', M', n', z') → W p l e (Rm_J5_copyOf_2 (n' - nS) (z' - zS)) s m args below meth c H locs (n - nS) (z - zS) (MQ below (mQ D n0 (some (.ref r)) S' M' n') args s (n' - nS) (z' - zS) (mA n0)) (F0 m 0 ls []) := by
  have hx := X.1.1
  have hb := X.1.2.1
  have hown := X.1.2.2.2.1
  have hts := X.1.2.2.2.2
  intro S M n z x0 x1 x2 H locs ls hn hz hp hl hF
  have hm0 := mn_J5_copyOf_2_0 hF
  unfold fb_J5_copyOf_2_0 at hF
  refine lv_aload_n hx hb dJ5_copyOf_2_0 rfl (lv_at hl 2 rfl) ?_
  refine m_ldcM X hV q364 dJ5_copyOf_2_1 ?_
  refine m_acmp_ne (tgt := 13) hx hb dJ5_copyOf_2_3 (by decide) (fun c1 => ?_) (fun c1 => ?_)
  · have hF := if_n c1 hF
    cases hF
  · have hF := if_p c1 hF
    refine lv_iload_n hx hb dJ5_copyOf_2_6 rfl (lv_at hl 1 rfl) ?_
    obtain ⟨g2, hF⟩ := gd_s hF
    have hm := (mn_J5_copyOf_2_10 (V := V)) hF
    refine m_anew X hp 107 rfl (by decide) q366 q365 g2.1 (by have := g2.2; omega) (by show _ ≤ n' - nS; omega) (by show _ ≤ z' - zS; omega) dJ5_copyOf_2_7 (fun H hp => ?_)
    refine W.widen (k := n + 1 - nS) (n := z + x1.toNatClampNeg - zS) (by omega) (by omega) ?_
    exact b_J5_copyOf_2_10 hV X _ _ _ _ _ _ _ _ _ _ (by omega) (by omega) hp (lv_sub hl [0, 1] rfl) hF
def f_J5_copyOf_2 (V : Nat → Nat) (S : mSh) (M : mMm) (n z : Nat) (x0 : Nat) (x1 : Int32) (x2 : Nat) : Option (Nat × mSh × mMm × Nat × Nat) := (fb_J5_copyOf_2_0 V S M n z x0 x1 x2)
theorem mn_J5_copyOf_2 {x0 : Nat} {x1 : Int32} {x2 : Nat} {r : Nat} {S' : mSh} {M' : mMm} {n' z' : Nat} {S : mSh} {M : mMm} {n z : Nat} (hF : f_J5_copyOf_2 V S M n z x0 x1 x2 = some (r, S', M', n', z')) : n ≤ n' ∧ z ≤ z' := by
  unfold f_J5_copyOf_2 at hF
  exact mn_J5_copyOf_2_0 hF
theorem w_J5_copyOf_2 {x0 : Nat} {x1 : Int32} {x2 : Nat} {r : Nat} {S' : mSh} {M' : mMm} {n' z' : Nat} {S : mSh} {M : mMm} {n z : Nat} (hV : mV V n0 P) (hF : f_J5_copyOf_2 V S M n z x0 x1 x2 = some (r, S', M', n', z')) : mCt l D n0 P yJ5_copyOf_2 cJ5_copyOf_2 4 (some (.array (.object "java/lang/Object"))) 1 60 (n' - n) (z' - z) [.ref x0, .int x1, .ref x2] S M n (some (.ref r)) S' M' n' := by
  refine m_ofW (by decide) (Nat.le_of_ble_eq_true rfl) (fun p e s m below meth c X hnm hp ls hl => ?_)
  unfold f_J5_copyOf_2 at hF
  refine W.widen (k := n - n) (n := z - z) (by omega) (by omega) ?_
  exact b_J5_copyOf_2_0 hV X _ _ _ _ _ _ _ _ _ _ (Nat.le_refl _) (Nat.le_refl _) hp hl hF
end
section
variable {l : Launch} {D : va_G} {n0 : Nat} {P : mP} {V : Nat → Nat} {p : Program} {e : Env} {s : State} {m : MethodId} {args : Array Value} {below : List Frame} {meth : Method} {c : Code}
abbrev Rm_J5_copyOf (mc ms : Nat) : Room := { frames := 2, cells := mc, slots := ms, locals := 83 }
def fb_J5_copyOf_9 (V : Nat → Nat) (S : mSh) (M : mMm) (n z : Nat) (y0 : Nat) : Option (Nat × mSh × mMm × Nat × Nat) := some (y0, S, M, n, z)
theorem mn_J5_copyOf_9 {r : Nat} {S' : mSh} {M' : mMm} {n' z' : Nat} : ∀ {S : mSh} {M : mMm} {n z : Nat} {y0 : Nat}, fb_J5_copyOf_9 V S M n z y0 = some (r, S', M', n', z') → n ≤ n' ∧ z ≤ z' := by
  intro S M n z y0 hF
  unfold fb_J5_copyOf_9 at hF
  cases hF
  exact ⟨Nat.le_refl _, Nat.le_refl _⟩
theorem b_J5_copyOf_9 {r : Nat} {S' : mSh} {M' : mMm} {n' z' : Nat} {nS zS : Nat} (hV : mV V n0 P) (X : mCx D n0 P p m c cJ5_copyOf 2 s args yJ5_copyOf.cls meth (some (.array (.object "java/lang/Object")))) : ∀ (S : mSh) (M : mMm) (n z : Nat) (y0 : Nat) (H : Heap) (locs : List Loc) (ls : Array Slot), nS ≤ n → zS ≤ z → mHp D n0 S M n s H locs → lv_has ls 2 [] → fb_J5_copyOf_9 V S M n z y0 = some (r, S', M', n', z') → W p l e (Rm_J5_copyOf (n' - nS) (z' - zS)) s m args below meth c H locs (n - nS) (z - zS) (MQ below (mQ D n0 (some (.ref r)) S' M' n') args s (n' - nS) (z' - zS) (mA n0)) (F0 m 9 ls [.ref y0]) := by
  have hx := X.1.1
  have hb := X.1.2.1
  have hown := X.1.2.2.2.1
  have hts := X.1.2.2.2.2
  intro S M n z y0 H locs ls hn hz hp hl hF
  have hm0 := mn_J5_copyOf_9 hF
  unfold fb_J5_copyOf_9 at hF
  cases hF
  exact m_aret X hp (Or.inr ⟨_, rfl⟩) dJ5_copyOf_9
def fb_J5_copyOf_0 (V : Nat → Nat) (S : mSh) (M : mMm) (n z : Nat) (x0 : Nat) (x1 : Int32) : Option (Nat × mSh × mMm × Nat × Nat) := gd ((S x0).1 = 107) (ob (f_J5_copyOf_2 V S M n z x0 x1 (V 1)) fun ⟨v3, S5, M4, n6, z7⟩ => (fb_J5_copyOf_9 V S5 M4 n6 z7  v3))
theorem mn_J5_copyOf_0 {r : Nat} {S' : mSh} {M' : mMm} {n' z' : Nat} : ∀ {S : mSh} {M : mMm} {n z : Nat} {x0 : Nat} {x1 : Int32}, fb_J5_copyOf_0 V S M n z x0 x1 = some (r, S', M', n', z') → n ≤ n' ∧ z ≤ z' := by
  intro S M n z x0 x1 hF
  unfold fb_J5_copyOf_0 at hF
  obtain ⟨g1, hF⟩ := gd_s hF
  obtain ⟨⟨v3, S5, M4, n6, z7⟩, e2, hF⟩ := ob_s hF
  have hc := mn_J5_copyOf_2 e2
  have h9 := (mn_J5_copyOf_9 (V := V)) hF
  exact ⟨by omega, by omega⟩
theorem b_J5_copyOf_0 {r : Nat} {S' : mSh} {M' : mMm} {n' z' : Nat} {nS zS : Nat} (hV : mV V n0 P) (X : mCx D n0 P p m c cJ5_copyOf 2 s args yJ5_copyOf.cls meth (some (.array (.object "java/lang/Object")))) : ∀ (S : mSh) (M : mMm) (n z : Nat) (x0 : Nat) (x1 : Int32) (H : Heap) (locs : List Loc) (ls : Array Slot), nS ≤ n → zS ≤ z → mHp D n0 S M n s H locs → lv_has ls 2 [(0, .ref x0), (1, .int x1)] → fb_J5_copyOf_0 V S M n z x0 x1 = some (r, S', M', n', z') → W p l e (Rm_J5_copyOf (n' - nS) (z' - zS)) s m args below meth c H locs (n - nS) (z - zS) (MQ below (mQ D n0 (some (.ref r)) S' M' n') args s (n' - nS) (z' - zS) (mA n0)) (F0 m 0 ls []) := by
  have hx := X.1.1
  have hb := X.1.2.1
  have hown := X.1.2.2.2.1
  have hts := X.1.2.2.2.2
  intro S M n z x0 x1 H locs ls hn hz hp hl hF
  have hm0 := mn_J5_copyOf_0 hF
  unfold fb_J5_copyOf_0 at hF
  refine lv_aload_n hx hb dJ5_copyOf_0 rfl (lv_at hl 0 rfl) ?_
  refine lv_iload_n hx hb dJ5_copyOf_1 rfl (lv_at hl 1 rfl) ?_
  refine lv_aload_n hx hb dJ5_copyOf_2 rfl (lv_at hl 0 rfl) ?_
  obtain ⟨g1, hF⟩ := gd_s hF
  refine m_getC X hp hV q342 g1 hl.1 (Nat.le_of_ble_eq_true rfl) (Nat.le_of_ble_eq_true rfl) dJ5_copyOf_3 ?_
  obtain ⟨⟨v3, S5, M4, n6, z7⟩, e2, hF⟩ := ob_s hF
  have hc := mn_J5_copyOf_2 e2
  have hm := (mn_J5_copyOf_9 (V := V)) hF
  refine m_callS (As := [.ref x0, .int x1, .ref (V 1)]) (rest := []) X hp (w_J5_copyOf_2 hV e2) q361 q362 q142 q363 3 rfl ds_J5_copyOf_2 ⟨Nat.le_of_ble_eq_true rfl, Nat.le_of_ble_eq_true rfl⟩ hl.1 rfl (Nat.le_of_ble_eq_true rfl) dJ5_copyOf_6 ⟨by show _ ≤ n' - nS; omega, by show _ ≤ z' - zS; omega⟩ (fun H locs hp => ?_)
  refine W.widen (k := n6 - nS) (n := z7 - zS) (by omega) (by omega) ?_
  exact b_J5_copyOf_9 hV X _ _ _ _  _ _ _ _ (by omega) (by omega) hp (lv_sub hl [] rfl) hF
def f_J5_copyOf (V : Nat → Nat) (S : mSh) (M : mMm) (n z : Nat) (x0 : Nat) (x1 : Int32) : Option (Nat × mSh × mMm × Nat × Nat) := (fb_J5_copyOf_0 V S M n z x0 x1)
theorem mn_J5_copyOf {x0 : Nat} {x1 : Int32} {r : Nat} {S' : mSh} {M' : mMm} {n' z' : Nat} {S : mSh} {M : mMm} {n z : Nat} (hF : f_J5_copyOf V S M n z x0 x1 = some (r, S', M', n', z')) : n ≤ n' ∧ z ≤ z' := by
  unfold f_J5_copyOf at hF
  exact mn_J5_copyOf_0 hF
theorem w_J5_copyOf {x0 : Nat} {x1 : Int32} {r : Nat} {S' : mSh} {M' : mMm} {n' z' : Nat} {S : mSh} {M : mMm} {n z : Nat} (hV : mV V n0 P) (hF : f_J5_copyOf V S M n z x0 x1 = some (r, S', M', n', z')) : mCt l D n0 P yJ5_copyOf cJ5_copyOf 2 (some (.array (.object "java/lang/Object"))) 2 83 (n' - n) (z' - z) [.ref x0, .int x1] S M n (some (.ref r)) S' M' n' := by
  refine m_ofW (by decide) (Nat.le_of_ble_eq_true rfl) (fun p e s m below meth c X hnm hp ls hl => ?_)
  unfold f_J5_copyOf at hF
  refine W.widen (k := n - n) (n := z - z) (by omega) (by omega) ?_
  exact b_J5_copyOf_0 hV X _ _ _ _ _ _ _ _ _ (Nat.le_refl _) (Nat.le_refl _) hp hl hF
end
section
variable {l : Launch} {D : va_G} {n0 : Nat} {P : mP} {V : Nat → Nat} {p : Program} {e : Env} {s : State} {m : MethodId} {args : Array Value} {below : List Frame} {meth : Method} {c : Code}
abbrev Rm_J2_grow_2 (mc ms : Nat) : Room := { frames := 3, cells := mc, slots := ms, locals := 104 }
def fb_J2_grow_2_40 (V : Nat → Nat) (S : mSh) (M : mMm) (n z : Nat) (y0 : Nat) (y1 : Nat) : Option (Nat × mSh × mMm × Nat × Nat) := ob (wF S M y1 15 1 (.ref y0)) fun M24 => some (y0, S, M24, n, z)
theorem mn_J2_grow_2_40 {r : Nat} {S' : mSh} {M' : mMm} {n' z' : Nat} : ∀ {S : mSh} {M : mMm} {n z : Nat} {y0 : Nat} {y1 : Nat}, fb_J2_grow_2_40 V S M n z y0 y1 = some (r, S', M', n', z') → n ≤ n' ∧ z ≤ z' := by
  intro S M n z y0 y1 hF
  unfold fb_J2_grow_2_40 at hF
  obtain ⟨M24, e25, hF⟩ := ob_s hF
  cases hF
  exact ⟨Nat.le_refl _, Nat.le_refl _⟩
theorem b_J2_grow_2_40 {r : Nat} {S' : mSh} {M' : mMm} {n' z' : Nat} {nS zS : Nat} (hV : mV V n0 P) (X : mCx D n0 P p m c cJ2_grow_2 4 s args yJ2_grow_2.cls meth (some (.array (.object "java/lang/Object")))) : ∀ (S : mSh) (M : mMm) (n z : Nat) (y0 : Nat) (y1 : Nat) (H : Heap) (locs : List Loc) (ls : Array Slot), nS ≤ n → zS ≤ z → mHp D n0 S M n s H locs → lv_has ls 4 [] → fb_J2_grow_2_40 V S M n z y0 y1 = some (r, S', M', n', z') → W p l e (Rm_J2_grow_2 (n' - nS) (z' - zS)) s m args below meth c H locs (n - nS) (z - zS) (MQ below (mQ D n0 (some (.ref r)) S' M' n') args s (n' - nS) (z' - zS) (mA n0)) (F0 m 40 ls [.ref y0, .ref y1]) := by
  have hx := X.1.1
  have hb := X.1.2.1
  have hown := X.1.2.2.2.1
  have hts := X.1.2.2.2.2
  intro S M n z y0 y1 H locs ls hn hz hp hl hF
  have hm0 := mn_J2_grow_2_40 hF
  unfold fb_J2_grow_2_40 at hF
  refine lv_dup_x1 hx hb dJ2_grow_2_40 rfl rfl ?_
  obtain ⟨M24, e25, hF⟩ := ob_s hF
  refine m_putW X hp e25 kJ2 (Nat.le_of_ble_eq_true rfl) q234 rfl rfl rfl dJ2_grow_2_41 (fun H locs hp => ?_)
  cases hF
  exact m_aret X hp (Or.inr ⟨_, rfl⟩) dJ2_grow_2_44
def fb_J2_grow_2_20 (V : Nat → Nat) (S : mSh) (M : mMm) (n z : Nat) (x0 : Nat) (x1 : Int32) (x2 : Int32) : Option (Nat × mSh × mMm × Nat × Nat) := ob (f_J3_newLength x2 (x1 - x2) (x2 >>> ((1 : Int32) &&& 31))) fun v15 => ob (rR S M x0 15 1) fun v16 => ob (f_J5_copyOf V S M n z v16 v15) fun ⟨v19, S21, M20, n22, z23⟩ => (fb_J2_grow_2_40 V S21 M20 n22 z23  v19 x0)
theorem mn_J2_grow_2_20 {r : Nat} {S' : mSh} {M' : mMm} {n' z' : Nat} : ∀ {S : mSh} {M : mMm} {n z : Nat} {x0 : Nat} {x1 : Int32} {x2 : Int32}, fb_J2_grow_2_20 V S M n z x0 x1 x2 = some (r, S', M', n', z') → n ≤ n' ∧ z ≤ z' := by
  intro S M n z x0 x1 x2 hF
  unfold fb_J2_grow_2_20 at hF
  obtain ⟨v15, e14, hF⟩ := ob_s hF
  obtain ⟨v16, e17, hF⟩ := ob_s hF
  obtain ⟨⟨v19, S21, M20, n22, z23⟩, e18, hF⟩ := ob_s hF
  have hc := mn_J5_copyOf e18
  have h9 := (mn_J2_grow_2_40 (V := V)) hF
  exact ⟨by omega, by omega⟩
theorem b_J2_grow_2_20 {r : Nat} {S' : mSh} {M' : mMm} {n' z' : Nat} {nS zS : Nat} (hV : mV V n0 P) (X : mCx D n0 P p m c cJ2_grow_2 4 s args yJ2_grow_2.cls meth (some (.array (.object "java/lang/Object")))) : ∀ (S : mSh) (M : mMm) (n z : Nat) (x0 : Nat) (x1 : Int32) (x2 : Int32) (H : Heap) (locs : List Loc) (ls : Array Slot), nS ≤ n → zS ≤ z → mHp D n0 S M n s H locs → lv_has ls 4 [(0, .ref x0), (1, .int x1), (2, .int x2)] → fb_J2_grow_2_20 V S M n z x0 x1 x2 = some (r, S', M', n', z') → W p l e (Rm_J2_grow_2 (n' - nS) (z' - zS)) s m args below meth c H locs (n - nS) (z - zS) (MQ below (mQ D n0 (some (.ref r)) S' M' n') args s (n' - nS) (z' - zS) (mA n0)) (F0 m 20 ls []) := by
  have hx := X.1.1
  have hb := X.1.2.1
  have hown := X.1.2.2.2.1
  have hts := X.1.2.2.2.2
  intro S M n z x0 x1 x2 H locs ls hn hz hp hl hF
  have hm0 := mn_J2_grow_2_20 hF
  unfold fb_J2_grow_2_20 at hF
  refine lv_iload_n hx hb dJ2_grow_2_20 rfl (lv_at hl 2 rfl) ?_
  refine lv_iload_n hx hb dJ2_grow_2_21 rfl (lv_at hl 1 rfl) ?_
  refine lv_iload_n hx hb dJ2_grow_2_22 rfl (lv_at hl 2 rfl) ?_
  refine lv_isub hx hb dJ2_grow_2_23 ?_
  refine lv_iload_n hx hb dJ2_grow_2_24 rfl (lv_at hl 2 rfl) ?_
  refine lv_iconst (v := 1) hx hb dJ2_grow_2_25 (by decide) ?_
  refine lv_ishr hx hb dJ2_grow_2_26 ?_
  obtain ⟨v15, e14, hF⟩ := ob_s hF
  refine m_callS (As := [.int x2, .int (x1 - x2), .int (x2 >>> ((1 : Int32) &&& 31))]) (rest := []) X hp (w_J3_newLength e14) q329 q330 q140 q331 3 rfl ds_J3_newLength ⟨Nat.le_of_ble_eq_true rfl, Nat.le_of_ble_eq_true rfl⟩ hl.1 rfl (Nat.le_of_ble_eq_true rfl) dJ2_grow_2_27 ⟨by show _ + 0 ≤ n' - nS; omega, by show _ + 0 ≤ z' - zS; omega⟩ (fun H locs hp => ?_)
  refine lv_istore_n (lv' := [(3, .int v15), (0, .ref x0), (1, .int x1), (2, .int x2)]) hx hb dJ2_grow_2_30 rfl hl (by decide) rfl (fun ls hl => ?_)
  refine lv_aload_n hx hb dJ2_grow_2_31 rfl (lv_at hl 1 rfl) ?_
  refine lv_aload_n hx hb dJ2_grow_2_32 rfl (lv_at hl 1 rfl) ?_
  obtain ⟨v16, e17, hF⟩ := ob_s hF
  refine m_getR X hp e17 kJ2 (Nat.le_of_ble_eq_true rfl) q234 dJ2_grow_2_33 ?_
  refine lv_iload_n hx hb dJ2_grow_2_36 rfl (lv_at hl 0 rfl) ?_
  obtain ⟨⟨v19, S21, M20, n22, z23⟩, e18, hF⟩ := ob_s hF
  have hc := mn_J5_copyOf e18
  have hm := (mn_J2_grow_2_40 (V := V)) hF
  refine m_callS (As := [.ref v16, .int v15]) (rest := [.ref x0]) X hp (w_J5_copyOf hV e18) q339 q340 q142 q341 2 rfl ds_J5_copyOf ⟨Nat.le_of_ble_eq_true rfl, Nat.le_of_ble_eq_true rfl⟩ hl.1 rfl (Nat.le_of_ble_eq_true rfl) dJ2_grow_2_37 ⟨by show _ ≤ n' - nS; omega, by show _ ≤ z' - zS; omega⟩ (fun H locs hp => ?_)
  refine W.widen (k := n22 - nS) (n := z23 - zS) (by omega) (by omega) ?_
  exact b_J2_grow_2_40 hV X _ _ _ _  _ _ _ _ _ (by omega) (by omega) hp (lv_sub hl [] rfl) hF
def fb_J2_grow_2_55 (V : Nat → Nat) (S : mSh) (M : mMm) (n z : Nat) (y0 : Nat) (y1 : Nat) : Option (Nat × mSh × mMm × Nat × Nat) := ob (wF S M y1 15 1 (.ref y0)) fun M12 => some (y0, S, M12, n, z)
theorem mn_J2_grow_2_55 {r : Nat} {S' : mSh} {M' : mMm} {n' z' : Nat} : ∀ {S : mSh} {M : mMm} {n z : Nat} {y0 : Nat} {y1 : Nat}, fb_J2_grow_2_55 V S M n z y0 y1 = some (r, S', M', n', z') → n ≤ n' ∧ z ≤ z' := by
  intro S M n z y0 y1 hF
  unfold fb_J2_grow_2_55 at hF
  obtain ⟨M12, e13, hF⟩ := ob_s hF
  cases hF
  exact ⟨Nat.le_refl _, Nat.le_refl _⟩
theorem b_J2_grow_2_55 {r : Nat} {S' : mSh} {M' : mMm} {n' z' : Nat} {nS zS : Nat} (hV : mV V n0 P) (X : mCx D n0 P p m c cJ2_grow_2 4 s args yJ2_grow_2.cls meth (some (.array (.object "java/lang/Object")))) : ∀ (S : mSh) (M : mMm) (n z : Nat) (y0 : Nat) (y1 : Nat) (H : Heap) (locs : List Loc) (ls : Array Slot), nS ≤ n → zS ≤ z → mHp D n0 S M n s H locs → lv_has ls 4 [] → fb_J2_grow_2_55 V S M n z y0 y1 = some (r, S', M', n', z') → W p l e (Rm_J2_grow_2 (n' - nS) (z' - zS)) s m args below meth c H locs (n - nS) (z - zS) (MQ below (mQ D n0 (some (.ref r)) S' M' n') args s (n' - nS) (z' - zS) (mA n0)) (F0 m 55 ls [.ref y0, .ref y1]) := by
  have hx := X.1.1
  have hb := X.1.2.1
  have hown := X.1.2.2.2.1
  have hts := X.1.2.2.2.2
  intro S M n z y0 y1 H locs ls hn hz hp hl hF
  have hm0 := mn_J2_grow_2_55 hF
  unfold fb_J2_grow_2_55 at hF
  refine lv_dup_x1 hx hb dJ2_grow_2_55 rfl rfl ?_
  obtain ⟨M12, e13, hF⟩ := ob_s hF
  refine m_putW X hp e13 kJ2 (Nat.le_of_ble_eq_true rfl) q234 rfl rfl rfl dJ2_grow_2_56 (fun H locs hp => ?_)
  cases hF
  exact m_aret X hp (Or.inr ⟨_, rfl⟩) dJ2_grow_2_59
def fb_J2_grow_2_0 (V : Nat → Nat) (S : mSh) (M : mMm) (n z : Nat) (x0 : Nat) (x1 : Int32) : Option (Nat × mSh × mMm × Nat × Nat) := ob (rR S M x0 15 1) fun v1 => ob (aN S v1 107) fun v3 => (if 0 < v3 then (fb_J2_grow_2_20 V S M n z x0 x1 v3) else ob (rR S M x0 15 1) fun v6 => (if v6 = (V 0) then ob (f_J4_max (10 : Int32) x1) fun v10 => gd (¬ v10 < 0 ∧ v10.toNatClampNeg ≤ 1000000) ((fb_J2_grow_2_55 V (mS1 S n (107, v10.toNatClampNeg)) (mM1 M n fun _ => .null) (n + 1) (z + v10.toNatClampNeg)  n x0)) else (fb_J2_grow_2_20 V S M n z x0 x1 v3)))
theorem mn_J2_grow_2_0 {r : Nat} {S' : mSh} {M' : mMm} {n' z' : Nat} : ∀ {S : mSh} {M : mMm} {n z : Nat} {x0 : Nat} {x1 : Int32}, fb_J2_grow_2_0 V S M n z x0 x1 = some (r, S', M', n', z') → n ≤ n' ∧ z ≤ z' := by
  intro S M n z x0 x1 hF
  unfold fb_J2_grow_2_0 at hF
  obtain ⟨v1, e2, hF⟩ := ob_s hF
  obtain ⟨v3, e4, hF⟩ := ob_s hF
  rcases Decidable.em (0 < v3) with c5 | c5
  · have hF := if_p c5 hF
    have h9 := (mn_J2_grow_2_20 (V := V)) hF
    exact ⟨by omega, by omega⟩
  · have hF := if_n c5 hF
    obtain ⟨v6, e7, hF⟩ := ob_s hF
    rcases Decidable.em (v6 = (V 0)) with c8 | c8
    · have hF := if_p c8 hF
      obtain ⟨v10, e9, hF⟩ := ob_s hF
      obtain ⟨g11, hF⟩ := gd_s hF
      have h9 := (mn_J2_grow_2_55 (V := V)) hF
      exact ⟨by omega, by omega⟩
    · have hF := if_n c8 hF
      have h9 := (mn_J2_grow_2_20 (V := V)) hF
      exact ⟨by omega, by omega⟩
theorem b_J2_grow_2_0 {r : Nat} {S' : mSh} {M' : mMm} {n' z' : Nat} {nS zS : Nat} (hV : mV V n0 P) (X : mCx D n0 P p m c cJ2_grow_2 4 s args yJ2_grow_2.cls meth (some (.array (.object "java/lang/Object")))) : ∀ (S : mSh) (M : mMm) (n z : Nat) (x0 : Nat) (x1 : Int32) (H : Heap) (locs : List Loc) (ls : Array Slot), nS ≤ n → zS ≤ z → mHp D n0 S M n s H locs → lv_has ls 4 [(0, .ref x0), (1, .int x1)] → fb_J2_grow_2_0 V S M n z x0 x1 = some (r, S', M', n', z') → W p l e (Rm_J2_grow_2 (n' - nS) (z' - zS)) s m args below meth c H locs (n - nS) (z - zS) (MQ below (mQ D n0 (some (.ref r)) S' M' n') args s (n' - nS) (z' - zS) (mA n0)) (F0 m 0 ls []) := by
  have hx := X.1.1
  have hb := X.1.2.1
  have hown := X.1.2.2.2.1
  have hts := X.1.2.2.2.2
  intro S M n z x0 x1 H locs ls hn hz hp hl hF
  have hm0 := mn_J2_grow_2_0 hF
  unfold fb_J2_grow_2_0 at hF
  refine lv_aload_n hx hb dJ2_grow_2_0 rfl (lv_at hl 0 rfl) ?_
  obtain ⟨v1, e2, hF⟩ := ob_s hF
  refine m_getR X hp e2 kJ2 (Nat.le_of_ble_eq_true rfl) q234 dJ2_grow_2_1 ?_
  obtain ⟨v3, e4, hF⟩ := ob_s hF
  refine m_aln 107 X hp e4 rfl (by decide) dJ2_grow_2_4 ?_
  refine lv_istore_n (lv' := [(2, .int v3), (0, .ref x0), (1, .int x1)]) hx hb dJ2_grow_2_5 rfl hl (by decide) rfl (fun ls hl => ?_)
  refine lv_iload_n hx hb dJ2_grow_2_6 rfl (lv_at hl 0 rfl) ?_
  refine lv_if_gt (tgt := 20) hx hb dJ2_grow_2_7 (by decide) (fun c5 => ?_) (fun c5 => ?_)
  · have hF := if_p c5 hF
    exact b_J2_grow_2_20 hV X _ _ _ _ _ _ _ _ _ _ (by omega) (by omega) hp (lv_sub hl [1, 2, 0] rfl) hF
  · have hF := if_n c5 hF
    refine lv_aload_n hx hb dJ2_grow_2_10 rfl (lv_at hl 1 rfl) ?_
    obtain ⟨v6, e7, hF⟩ := ob_s hF
    refine m_getR X hp e7 kJ2 (Nat.le_of_ble_eq_true rfl) q234 dJ2_grow_2_11 ?_
    refine m_gets X hp (mV_0 hV _ _ X.2.1.2.2.2.1) q232 dJ2_grow_2_14 ?_
    refine m_acmp_eq (tgt := 45) hx hb dJ2_grow_2_17 (by decide) (fun c8 => ?_) (fun c8 => ?_)
    · have hF := if_p c8 hF
      refine lv_aload_n hx hb dJ2_grow_2_45 rfl (lv_at hl 1 rfl) ?_
      refine lv_bipush (v := 10) hx hb dJ2_grow_2_46 (by decide) ?_
      refine lv_iload_n hx hb dJ2_grow_2_48 rfl (lv_at hl 2 rfl) ?_
      obtain ⟨v10, e9, hF⟩ := ob_s hF
      refine m_callS (As := [.int (10 : Int32), .int x1]) (rest := [.ref x0]) X hp (w_J4_max e9) q373 q333 q141 q334 2 rfl ds_J4_max ⟨Nat.le_of_ble_eq_true rfl, Nat.le_of_ble_eq_true rfl⟩ hl.1 rfl (Nat.le_of_ble_eq_true rfl) dJ2_grow_2_49 ⟨by show _ + 0 ≤ n' - nS; omega, by show _ + 0 ≤ z' - zS; omega⟩ (fun H locs hp => ?_)
      obtain ⟨g11, hF⟩ := gd_s hF
      have hm := (mn_J2_grow_2_55 (V := V)) hF
      refine m_anew X hp 107 rfl (by decide) q374 q365 g11.1 (by have := g11.2; omega) (by show _ ≤ n' - nS; omega) (by show _ ≤ z' - zS; omega) dJ2_grow_2_52 (fun H hp => ?_)
      refine W.widen (k := n + 1 - nS) (n := z + v10.toNatClampNeg - zS) (by omega) (by omega) ?_
      exact b_J2_grow_2_55 hV X _ _ _ _  _ _ _ _ _ (by omega) (by omega) hp (lv_sub hl [] rfl) hF
    · have hF := if_n c8 hF
      exact b_J2_grow_2_20 hV X _ _ _ _ _ _ _ _ _ _ (by omega) (by omega) hp (lv_sub hl [1, 2, 0] rfl) hF
def f_J2_grow_2 (V : Nat → Nat) (S : mSh) (M : mMm) (n z : Nat) (x0 : Nat) (x1 : Int32) : Option (Nat × mSh × mMm × Nat × Nat) := (fb_J2_grow_2_0 V S M n z x0 x1)
theorem mn_J2_grow_2 {x0 : Nat} {x1 : Int32} {r : Nat} {S' : mSh} {M' : mMm} {n' z' : Nat} {S : mSh} {M : mMm} {n z : Nat} (hF : f_J2_grow_2 V S M n z x0 x1 = some (r, S', M', n', z')) : n ≤ n' ∧ z ≤ z' := by
  unfold f_J2_grow_2 at hF
  exact mn_J2_grow_2_0 hF
theorem w_J2_grow_2 {x0 : Nat} {x1 : Int32} {r : Nat} {S' : mSh} {M' : mMm} {n' z' : Nat} {S : mSh} {M : mMm} {n z : Nat} (hV : mV V n0 P) (hF : f_J2_grow_2 V S M n z x0 x1 = some (r, S', M', n', z')) : mCt l D n0 P yJ2_grow_2 cJ2_grow_2 4 (some (.array (.object "java/lang/Object"))) 3 104 (n' - n) (z' - z) [.ref x0, .int x1] S M n (some (.ref r)) S' M' n' := by
  refine m_ofW (by decide) (Nat.le_of_ble_eq_true rfl) (fun p e s m below meth c X hnm hp ls hl => ?_)
  unfold f_J2_grow_2 at hF
  refine W.widen (k := n - n) (n := z - z) (by omega) (by omega) ?_
  exact b_J2_grow_2_0 hV X _ _ _ _ _ _ _ _ _ (Nat.le_refl _) (Nat.le_refl _) hp hl hF
end
section
variable {l : Launch} {D : va_G} {n0 : Nat} {P : mP} {V : Nat → Nat} {p : Program} {e : Env} {s : State} {m : MethodId} {args : Array Value} {below : List Frame} {meth : Method} {c : Code}
abbrev Rm_J2_grow (mc ms : Nat) : Room := { frames := 4, cells := mc, slots := ms, locals := 127 }
def fb_J2_grow_10 (V : Nat → Nat) (S : mSh) (M : mMm) (n z : Nat) (y0 : Nat) : Option (Nat × mSh × mMm × Nat × Nat) := some (y0, S, M, n, z)
theorem mn_J2_grow_10 {r : Nat} {S' : mSh} {M' : mMm} {n' z' : Nat} : ∀ {S : mSh} {M : mMm} {n z : Nat} {y0 : Nat}, fb_J2_grow_10 V S M n z y0 = some (r, S', M', n', z') → n ≤ n' ∧ z ≤ z' := by
  intro S M n z y0 hF
  unfold fb_J2_grow_10 at hF
  cases hF
  exact ⟨Nat.le_refl _, Nat.le_refl _⟩
theorem b_J2_grow_10 {r : Nat} {S' : mSh} {M' : mMm} {n' z' : Nat} {nS zS : Nat} (hV : mV V n0 P) (X : mCx D n0 P p m c cJ2_grow 1 s args yJ2_grow.cls meth (some (.array (.object "java/lang/Object")))) : ∀ (S : mSh) (M : mMm) (n z : Nat) (y0 : Nat) (H : Heap) (locs : List Loc) (ls : Array Slot), nS ≤ n → zS ≤ z → mHp D n0 S M n s H locs → lv_has ls 1 [] → fb_J2_grow_10 V S M n z y0 = some (r, S', M', n', z') → W p l e (Rm_J2_grow (n' - nS) (z' - zS)) s m args below meth c H locs (n - nS) (z - zS) (MQ below (mQ D n0 (some (.ref r)) S' M' n') args s (n' - nS) (z' - zS) (mA n0)) (F0 m 10 ls [.ref y0]) := by
  have hx := X.1.1
  have hb := X.1.2.1
  have hown := X.1.2.2.2.1
  have hts := X.1.2.2.2.2
  intro S M n z y0 H locs ls hn hz hp hl hF
  have hm0 := mn_J2_grow_10 hF
  unfold fb_J2_grow_10 at hF
  cases hF
  exact m_aret X hp (Or.inr ⟨_, rfl⟩) dJ2_grow_10
def fb_J2_grow_0 (V : Nat → Nat) (S : mSh) (M : mMm) (n z : Nat) (x0 : Nat) : Option (Nat × mSh × mMm × Nat × Nat) := ob (rI S M x0 15 2) fun v1 => ob (f_J2_grow_2 V S M n z x0 (v1 + (1 : Int32))) fun ⟨v4, S6, M5, n7, z8⟩ => (fb_J2_grow_10 V S6 M5 n7 z8  v4)
theorem mn_J2_grow_0 {r : Nat} {S' : mSh} {M' : mMm} {n' z' : Nat} : ∀ {S : mSh} {M : mMm} {n z : Nat} {x0 : Nat}, fb_J2_grow_0 V S M n z x0 = some (r, S', M', n', z') → n ≤ n' ∧ z ≤ z' := by
  intro S M n z x0 hF
  unfold fb_J2_grow_0 at hF
  obtain ⟨v1, e2, hF⟩ := ob_s hF
  obtain ⟨⟨v4, S6, M5, n7, z8⟩, e3, hF⟩ := ob_s hF
  have hc := mn_J2_grow_2 e3
  have h9 := (mn_J2_grow_10 (V := V)) hF
  exact ⟨by omega, by omega⟩
theorem b_J2_grow_0 {r : Nat} {S' : mSh} {M' : mMm} {n' z' : Nat} {nS zS : Nat} (hV : mV V n0 P) (X : mCx D n0 P p m c cJ2_grow 1 s args yJ2_grow.cls meth (some (.array (.object "java/lang/Object")))) : ∀ (S : mSh) (M : mMm) (n z : Nat) (x0 : Nat) (H : Heap) (locs : List Loc) (ls : Array Slot), nS ≤ n → zS ≤ z → mHp D n0 S M n s H locs → lv_has ls 1 [(0, .ref x0)] → fb_J2_grow_0 V S M n z x0 = some (r, S', M', n', z') → W p l e (Rm_J2_grow (n' - nS) (z' - zS)) s m args below meth c H locs (n - nS) (z - zS) (MQ below (mQ D n0 (some (.ref r)) S' M' n') args s (n' - nS) (z' - zS) (mA n0)) (F0 m 0 ls []) := by
  have hx := X.1.1
  have hb := X.1.2.1
  have hown := X.1.2.2.2.1
  have hts := X.1.2.2.2.2
  intro S M n z x0 H locs ls hn hz hp hl hF
  have hm0 := mn_J2_grow_0 hF
  unfold fb_J2_grow_0 at hF
  refine lv_aload_n hx hb dJ2_grow_0 rfl (lv_at hl 0 rfl) ?_
  refine lv_aload_n hx hb dJ2_grow_1 rfl (lv_at hl 0 rfl) ?_
  obtain ⟨v1, e2, hF⟩ := ob_s hF
  refine m_getI X hp e2 kJ2 (Nat.le_of_ble_eq_true rfl) q235 dJ2_grow_2 ?_
  refine lv_iconst (v := 1) hx hb dJ2_grow_5 (by decide) ?_
  refine lv_iadd hx hb dJ2_grow_6 ?_
  obtain ⟨⟨v4, S6, M5, n7, z8⟩, e3, hF⟩ := ob_s hF
  have hc := mn_J2_grow_2 e3
  have hm := (mn_J2_grow_10 (V := V)) hF
  refine m_callV (As := [.int (v1 + (1 : Int32))]) (rest := []) X hp (w_J2_grow_2 hV e3) q325 q327 qs2 q138 q328 1 rfl ds_J2_grow_2 ⟨Nat.le_of_ble_eq_true rfl, Nat.le_of_ble_eq_true rfl⟩ 15 (T := TJ2) (N := 3) rfl (by decide) (rI_s e2).1 hl.1 rfl (Nat.le_of_ble_eq_true rfl) dJ2_grow_7 ⟨by show _ ≤ n' - nS; omega, by show _ ≤ z' - zS; omega⟩ (fun H locs hp => ?_)
  refine W.widen (k := n7 - nS) (n := z8 - zS) (by omega) (by omega) ?_
  exact b_J2_grow_10 hV X _ _ _ _  _ _ _ _ (by omega) (by omega) hp (lv_sub hl [] rfl) hF
def f_J2_grow (V : Nat → Nat) (S : mSh) (M : mMm) (n z : Nat) (x0 : Nat) : Option (Nat × mSh × mMm × Nat × Nat) := (fb_J2_grow_0 V S M n z x0)
theorem mn_J2_grow {x0 : Nat} {r : Nat} {S' : mSh} {M' : mMm} {n' z' : Nat} {S : mSh} {M : mMm} {n z : Nat} (hF : f_J2_grow V S M n z x0 = some (r, S', M', n', z')) : n ≤ n' ∧ z ≤ z' := by
  unfold f_J2_grow at hF
  exact mn_J2_grow_0 hF
theorem w_J2_grow {x0 : Nat} {r : Nat} {S' : mSh} {M' : mMm} {n' z' : Nat} {S : mSh} {M : mMm} {n z : Nat} (hV : mV V n0 P) (hF : f_J2_grow V S M n z x0 = some (r, S', M', n', z')) : mCt l D n0 P yJ2_grow cJ2_grow 1 (some (.array (.object "java/lang/Object"))) 4 127 (n' - n) (z' - z) [.ref x0] S M n (some (.ref r)) S' M' n' := by
  refine m_ofW (by decide) (Nat.le_of_ble_eq_true rfl) (fun p e s m below meth c X hnm hp ls hl => ?_)
  unfold f_J2_grow at hF
  refine W.widen (k := n - n) (n := z - z) (by omega) (by omega) ?_
  exact b_J2_grow_0 hV X _ _ _ _ _ _ _ _ (Nat.le_refl _) (Nat.le_refl _) hp hl hF
end
section
variable {l : Launch} {D : va_G} {n0 : Nat} {P : mP} {V : Nat → Nat} {p : Program} {e : Env} {s : State} {m : MethodId} {args : Array Value} {below : List Frame} {meth : Method} {c : Code}
abbrev Rm_J2_add_2 (mc ms : Nat) : Room := { frames := 5, cells := mc, slots := ms, locals := 147 }
def fb_J2_add_2_11 (V : Nat → Nat) (S : mSh) (M : mMm) (n z : Nat) (x0 : Nat) (x1 : Nat) (x2 : Nat) (x3 : Int32) : Option (mSh × mMm × Nat × Nat) := gd (0 < (S x1).1 ∧ (S x1).1 < 16) (ob (wA S M x2 107 x3 (.ref x1)) fun M11 => ob (wF S M11 x0 15 2 (.int (x3 + (1 : Int32)))) fun M14 => some (S, M14, n, z))
theorem mn_J2_add_2_11 {S' : mSh} {M' : mMm} {n' z' : Nat} : ∀ {S : mSh} {M : mMm} {n z : Nat} {x0 : Nat} {x1 : Nat} {x2 : Nat} {x3 : Int32}, fb_J2_add_2_11 V S M n z x0 x1 x2 x3 = some (S', M', n', z') → n ≤ n' ∧ z ≤ z' := by
  intro S M n z x0 x1 x2 x3 hF
  unfold fb_J2_add_2_11 at hF
  obtain ⟨g13, hF⟩ := gd_s hF
  obtain ⟨M11, e12, hF⟩ := ob_s hF
  obtain ⟨M14, e15, hF⟩ := ob_s hF
  cases hF
  exact ⟨Nat.le_refl _, Nat.le_refl _⟩
theorem b_J2_add_2_11 {S' : mSh} {M' : mMm} {n' z' : Nat} {nS zS : Nat} (hV : mV V n0 P) (X : mCx D n0 P p m c cJ2_add_2 4 s args yJ2_add_2.cls meth none) : ∀ (S : mSh) (M : mMm) (n z : Nat) (x0 : Nat) (x1 : Nat) (x2 : Nat) (x3 : Int32) (H : Heap) (locs : List Loc) (ls : Array Slot), nS ≤ n → zS ≤ z → mHp D n0 S M n s H locs → lv_has ls 4 [(0, .ref x0), (1, .ref x1), (2, .ref x2), (3, .int x3)] → fb_J2_add_2_11 V S M n z x0 x1 x2 x3 = some (S', M', n', z') → W p l e (Rm_J2_add_2 (n' - nS) (z' - zS)) s m args below meth c H locs (n - nS) (z - zS) (MQ below (mQ D n0 none S' M' n') args s (n' - nS) (z' - zS) (mA n0)) (F0 m 11 ls []) := by
  have hx := X.1.1
  have hb := X.1.2.1
  have hown := X.1.2.2.2.1
  have hts := X.1.2.2.2.2
  intro S M n z x0 x1 x2 x3 H locs ls hn hz hp hl hF
  have hm0 := mn_J2_add_2_11 hF
  unfold fb_J2_add_2_11 at hF
  refine lv_aload_n hx hb dJ2_add_2_11 rfl (lv_at hl 2 rfl) ?_
  refine lv_iload_n hx hb dJ2_add_2_12 rfl (lv_at hl 3 rfl) ?_
  refine lv_aload_n hx hb dJ2_add_2_13 rfl (lv_at hl 1 rfl) ?_
  obtain ⟨g13, hF⟩ := gd_s hF
  obtain ⟨M11, e12, hF⟩ := ob_s hF
  refine m_aaO X hp e12 g13 dJ2_add_2_14 (fun H locs hp => ?_)
  refine lv_aload_n hx hb dJ2_add_2_15 rfl (lv_at hl 0 rfl) ?_
  refine lv_iload_n hx hb dJ2_add_2_16 rfl (lv_at hl 3 rfl) ?_
  refine lv_iconst (v := 1) hx hb dJ2_add_2_17 (by decide) ?_
  refine lv_iadd hx hb dJ2_add_2_18 ?_
  obtain ⟨M14, e15, hF⟩ := ob_s hF
  refine m_putW X hp e15 kJ2 (Nat.le_of_ble_eq_true rfl) q235 rfl rfl rfl dJ2_add_2_19 (fun H locs hp => ?_)
  cases hF
  exact m_vret X hp dJ2_add_2_22
def fb_J2_add_2_10 (V : Nat → Nat) (S : mSh) (M : mMm) (n z : Nat) (x0 : Nat) (x1 : Nat) (x3 : Int32) (y0 : Nat) : Option (mSh × mMm × Nat × Nat) := (fb_J2_add_2_11 V S M n z x0 x1 y0 x3)
theorem mn_J2_add_2_10 {S' : mSh} {M' : mMm} {n' z' : Nat} : ∀ {S : mSh} {M : mMm} {n z : Nat} {x0 : Nat} {x1 : Nat} {x3 : Int32} {y0 : Nat}, fb_J2_add_2_10 V S M n z x0 x1 x3 y0 = some (S', M', n', z') → n ≤ n' ∧ z ≤ z' := by
  intro S M n z x0 x1 x3 y0 hF
  unfold fb_J2_add_2_10 at hF
  have h9 := (mn_J2_add_2_11 (V := V)) hF
  exact ⟨by omega, by omega⟩
theorem b_J2_add_2_10 {S' : mSh} {M' : mMm} {n' z' : Nat} {nS zS : Nat} (hV : mV V n0 P) (X : mCx D n0 P p m c cJ2_add_2 4 s args yJ2_add_2.cls meth none) : ∀ (S : mSh) (M : mMm) (n z : Nat) (x0 : Nat) (x1 : Nat) (x3 : Int32) (y0 : Nat) (H : Heap) (locs : List Loc) (ls : Array Slot), nS ≤ n → zS ≤ z → mHp D n0 S M n s H locs → lv_has ls 4 [(0, .ref x0), (1, .ref x1), (3, .int x3)] → fb_J2_add_2_10 V S M n z x0 x1 x3 y0 = some (S', M', n', z') → W p l e (Rm_J2_add_2 (n' - nS) (z' - zS)) s m args below meth c H locs (n - nS) (z - zS) (MQ below (mQ D n0 none S' M' n') args s (n' - nS) (z' - zS) (mA n0)) (F0 m 10 ls [.ref y0]) := by
  have hx := X.1.1
  have hb := X.1.2.1
  have hown := X.1.2.2.2.1
  have hts := X.1.2.2.2.2
  intro S M n z x0 x1 x3 y0 H locs ls hn hz hp hl hF
  have hm0 := mn_J2_add_2_10 hF
  unfold fb_J2_add_2_10 at hF
  refine lv_astore_n (lv' := [(2, .ref y0), (0, .ref x0), (1, .ref x1), (3, .int x3)]) hx hb dJ2_add_2_10 rfl hl (by decide) rfl (fun ls hl => ?_)
  exact b_J2_add_2_11 hV X _ _ _ _ _ _ _ _ _ _ _ (by omega) (by omega) hp (lv_sub hl [1, 2, 0, 3] rfl) hF
def fb_J2_add_2_0 (V : Nat → Nat) (S : mSh) (M : mMm) (n z : Nat) (x0 : Nat) (x1 : Nat) (x2 : Nat) (x3 : Int32) : Option (mSh × mMm × Nat × Nat) := ob (aN S x2 107) fun v1 => (if x3 = v1 then gd ((S x0).1 = 15) (ob (f_J2_grow V S M n z x0) fun ⟨v6, S8, M7, n9, z10⟩ => (fb_J2_add_2_10 V S8 M7 n9 z10 x0 x1 x3 v6)) else (fb_J2_add_2_11 V S M n z x0 x1 x2 x3))
theorem mn_J2_add_2_0 {S' : mSh} {M' : mMm} {n' z' : Nat} : ∀ {S : mSh} {M : mMm} {n z : Nat} {x0 : Nat} {x1 : Nat} {x2 : Nat} {x3 : Int32}, fb_J2_add_2_0 V S M n z x0 x1 x2 x3 = some (S', M', n', z') → n ≤ n' ∧ z ≤ z' := by
  intro S M n z x0 x1 x2 x3 hF
  unfold fb_J2_add_2_0 at hF
  obtain ⟨v1, e2, hF⟩ := ob_s hF
  rcases (Decidable.em (x3 = v1)).symm with c3 | c3
  · have hF := if_n c3 hF
    have h9 := (mn_J2_add_2_11 (V := V)) hF
    exact ⟨by omega, by omega⟩
  · have hF := if_p c3 hF
    obtain ⟨g4, hF⟩ := gd_s hF
    obtain ⟨⟨v6, S8, M7, n9, z10⟩, e5, hF⟩ := ob_s hF
    have hc := mn_J2_grow e5
    have h9 := (mn_J2_add_2_10 (V := V)) hF
    exact ⟨by omega, by omega⟩
theorem b_J2_add_2_0 {S' : mSh} {M' : mMm} {n' z' : Nat} {nS zS : Nat} (hV : mV V n0 P) (X : mCx D n0 P p m c cJ2_add_2 4 s args yJ2_add_2.cls meth none) : ∀ (S : mSh) (M : mMm) (n z : Nat) (x0 : Nat) (x1 : Nat) (x2 : Nat) (x3 : Int32) (H : Heap) (locs : List Loc) (ls : Array Slot), nS ≤ n → zS ≤ z → mHp D n0 S M n s H locs → lv_has ls 4 [(0, .ref x0), (1, .ref x1), (2, .ref x2), (3, .int x3)] → fb_J2_add_2_0 V S M n z x0 x1 x2 x3 = some (S', M', n', z') → W p l e (Rm_J2_add_2 (n' - nS) (z' - zS)) s m args below meth c H locs (n - nS) (z - zS) (MQ below (mQ D n0 none S' M' n') args s (n' - nS) (z' - zS) (mA n0)) (F0 m 0 ls []) := by
  have hx := X.1.1
  have hb := X.1.2.1
  have hown := X.1.2.2.2.1
  have hts := X.1.2.2.2.2
  intro S M n z x0 x1 x2 x3 H locs ls hn hz hp hl hF
  have hm0 := mn_J2_add_2_0 hF
  unfold fb_J2_add_2_0 at hF
  refine lv_iload_n hx hb dJ2_add_2_0 rfl (lv_at hl 3 rfl) ?_
  refine lv_aload_n hx hb dJ2_add_2_1 rfl (lv_at hl 2 rfl) ?_
  obtain ⟨v1, e2, hF⟩ := ob_s hF
  refine m_aln 107 X hp e2 rfl (by decide) dJ2_add_2_2 ?_
  refine lv_icmp_ne (tgt := 11) hx hb dJ2_add_2_3 (by decide) (fun c3 => ?_) (fun c3 => ?_)
  · have hF := if_n c3 hF
    exact b_J2_add_2_11 hV X _ _ _ _ _ _ _ _ _ _ _ (by omega) (by omega) hp (lv_sub hl [0, 1, 2, 3] rfl) hF
  · have hF := if_p c3 hF
    refine lv_aload_n hx hb dJ2_add_2_6 rfl (lv_at hl 0 rfl) ?_
    obtain ⟨g4, hF⟩ := gd_s hF
    obtain ⟨⟨v6, S8, M7, n9, z10⟩, e5, hF⟩ := ob_s hF
    have hc := mn_J2_grow e5
    have hm := (mn_J2_add_2_10 (V := V)) hF
    refine m_callV (As := []) (rest := []) X hp (w_J2_grow hV e5) q321 q323 qs1 q138 q324 0 rfl ds_J2_grow ⟨Nat.le_of_ble_eq_true rfl, Nat.le_of_ble_eq_true rfl⟩ 15 (T := TJ2) (N := 3) rfl (by decide) g4 hl.1 rfl (Nat.le_of_ble_eq_true rfl) dJ2_add_2_7 ⟨by show _ ≤ n' - nS; omega, by show _ ≤ z' - zS; omega⟩ (fun H locs hp => ?_)
    refine W.widen (k := n9 - nS) (n := z10 - zS) (by omega) (by omega) ?_
    exact b_J2_add_2_10 hV X _ _ _ _ _ _ _ _ _ _ _ (by omega) (by omega) hp (lv_sub hl [0, 1, 3] rfl) hF
def f_J2_add_2 (V : Nat → Nat) (S : mSh) (M : mMm) (n z : Nat) (x0 : Nat) (x1 : Nat) (x2 : Nat) (x3 : Int32) : Option (mSh × mMm × Nat × Nat) := (fb_J2_add_2_0 V S M n z x0 x1 x2 x3)
theorem mn_J2_add_2 {x0 : Nat} {x1 : Nat} {x2 : Nat} {x3 : Int32} {S' : mSh} {M' : mMm} {n' z' : Nat} {S : mSh} {M : mMm} {n z : Nat} (hF : f_J2_add_2 V S M n z x0 x1 x2 x3 = some (S', M', n', z')) : n ≤ n' ∧ z ≤ z' := by
  unfold f_J2_add_2 at hF
  exact mn_J2_add_2_0 hF
theorem w_J2_add_2 {x0 : Nat} {x1 : Nat} {x2 : Nat} {x3 : Int32} {S' : mSh} {M' : mMm} {n' z' : Nat} {S : mSh} {M : mMm} {n z : Nat} (hV : mV V n0 P) (hF : f_J2_add_2 V S M n z x0 x1 x2 x3 = some (S', M', n', z')) : mCt l D n0 P yJ2_add_2 cJ2_add_2 4 none 5 147 (n' - n) (z' - z) [.ref x0, .ref x1, .ref x2, .int x3] S M n none S' M' n' := by
  refine m_ofW (by decide) (Nat.le_of_ble_eq_true rfl) (fun p e s m below meth c X hnm hp ls hl => ?_)
  unfold f_J2_add_2 at hF
  refine W.widen (k := n - n) (n := z - z) (by omega) (by omega) ?_
  exact b_J2_add_2_0 hV X _ _ _ _ _ _ _ _ _ _ _ (Nat.le_refl _) (Nat.le_refl _) hp hl hF
end
section
variable {l : Launch} {D : va_G} {n0 : Nat} {P : mP} {V : Nat → Nat} {p : Program} {e : Env} {s : State} {m : MethodId} {args : Array Value} {below : List Frame} {meth : Method} {c : Code}
abbrev Rm_J2_add (mc ms : Nat) : Room := { frames := 6, cells := mc, slots := ms, locals := 170 }
def fb_J2_add_23 (V : Nat → Nat) (S : mSh) (M : mMm) (n z : Nat) : Option (Int32 × mSh × mMm × Nat × Nat) := some ((1 : Int32), S, M, n, z)
theorem mn_J2_add_23 {r : Int32} {S' : mSh} {M' : mMm} {n' z' : Nat} : ∀ {S : mSh} {M : mMm} {n z : Nat}, fb_J2_add_23 V S M n z = some (r, S', M', n', z') → n ≤ n' ∧ z ≤ z' := by
  intro S M n z hF
  unfold fb_J2_add_23 at hF
  cases hF
  exact ⟨Nat.le_refl _, Nat.le_refl _⟩
theorem b_J2_add_23 {r : Int32} {S' : mSh} {M' : mMm} {n' z' : Nat} {nS zS : Nat} (hV : mV V n0 P) (X : mCx D n0 P p m c cJ2_add 2 s args yJ2_add.cls meth (some .boolean)) : ∀ (S : mSh) (M : mMm) (n z : Nat) (H : Heap) (locs : List Loc) (ls : Array Slot), nS ≤ n → zS ≤ z → mHp D n0 S M n s H locs → lv_has ls 2 [] → fb_J2_add_23 V S M n z = some (r, S', M', n', z') → W p l e (Rm_J2_add (n' - nS) (z' - zS)) s m args below meth c H locs (n - nS) (z - zS) (MQ below (mQ D n0 (some (.int r)) S' M' n') args s (n' - nS) (z' - zS) (mA n0)) (F0 m 23 ls []) := by
  have hx := X.1.1
  have hb := X.1.2.1
  have hown := X.1.2.2.2.1
  have hts := X.1.2.2.2.2
  intro S M n z H locs ls hn hz hp hl hF
  have hm0 := mn_J2_add_23 hF
  unfold fb_J2_add_23 at hF
  refine lv_iconst (v := 1) hx hb dJ2_add_23 (by decide) ?_
  cases hF
  exact m_zret X hp rfl dJ2_add_24
def fb_J2_add_0 (V : Nat → Nat) (S : mSh) (M : mMm) (n z : Nat) (x0 : Nat) (x1 : Nat) : Option (Int32 × mSh × mMm × Nat × Nat) := ob (rI S M x0 15 0) fun v1 => ob (wF S M x0 15 0 (.int (v1 + (1 : Int32)))) fun M3 => ob (rR S M3 x0 15 1) fun v5 => ob (rI S M3 x0 15 2) fun v7 => ob (f_J2_add_2 V S M3 n z x0 x1 v5 v7) fun ⟨S12, M11, n13, z14⟩ => (fb_J2_add_23 V S12 M11 n13 z14 )
theorem mn_J2_add_0 {r : Int32} {S' : mSh} {M' : mMm} {n' z' : Nat} : ∀ {S : mSh} {M : mMm} {n z : Nat} {x0 : Nat} {x1 : Nat}, fb_J2_add_0 V S M n z x0 x1 = some (r, S', M', n', z') → n ≤ n' ∧ z ≤ z' := by
  intro S M n z x0 x1 hF
  unfold fb_J2_add_0 at hF
  obtain ⟨v1, e2, hF⟩ := ob_s hF
  obtain ⟨M3, e4, hF⟩ := ob_s hF
  obtain ⟨v5, e6, hF⟩ := ob_s hF
  obtain ⟨v7, e8, hF⟩ := ob_s hF
  obtain ⟨⟨S12, M11, n13, z14⟩, e9, hF⟩ := ob_s hF
  have hc := mn_J2_add_2 e9
  have h9 := (mn_J2_add_23 (V := V)) hF
  exact ⟨by omega, by omega⟩
theorem b_J2_add_0 {r : Int32} {S' : mSh} {M' : mMm} {n' z' : Nat} {nS zS : Nat} (hV : mV V n0 P) (X : mCx D n0 P p m c cJ2_add 2 s args yJ2_add.cls meth (some .boolean)) : ∀ (S : mSh) (M : mMm) (n z : Nat) (x0 : Nat) (x1 : Nat) (H : Heap) (locs : List Loc) (ls : Array Slot), nS ≤ n → zS ≤ z → mHp D n0 S M n s H locs → lv_has ls 2 [(0, .ref x0), (1, .ref x1)] → fb_J2_add_0 V S M n z x0 x1 = some (r, S', M', n', z') → W p l e (Rm_J2_add (n' - nS) (z' - zS)) s m args below meth c H locs (n - nS) (z - zS) (MQ below (mQ D n0 (some (.int r)) S' M' n') args s (n' - nS) (z' - zS) (mA n0)) (F0 m 0 ls []) := by
  have hx := X.1.1
  have hb := X.1.2.1
  have hown := X.1.2.2.2.1
  have hts := X.1.2.2.2.2
  intro S M n z x0 x1 H locs ls hn hz hp hl hF
  have hm0 := mn_J2_add_0 hF
  unfold fb_J2_add_0 at hF
  refine lv_aload_n hx hb dJ2_add_0 rfl (lv_at hl 0 rfl) ?_
  refine lv_dup hx hb dJ2_add_1 rfl ?_
  obtain ⟨v1, e2, hF⟩ := ob_s hF
  refine m_getIS X hp e2 kJ2 (Nat.le_of_ble_eq_true rfl) q238 q237 dJ2_add_2 ?_
  refine lv_iconst (v := 1) hx hb dJ2_add_5 (by decide) ?_
  refine lv_iadd hx hb dJ2_add_6 ?_
  obtain ⟨M3, e4, hF⟩ := ob_s hF
  refine m_putWS X hp e4 kJ2 (Nat.le_of_ble_eq_true rfl) q238 q237 rfl rfl rfl dJ2_add_7 (fun H locs hp => ?_)
  refine lv_aload_n hx hb dJ2_add_10 rfl (lv_at hl 0 rfl) ?_
  refine lv_aload_n hx hb dJ2_add_11 rfl (lv_at hl 1 rfl) ?_
  refine lv_aload_n hx hb dJ2_add_12 rfl (lv_at hl 0 rfl) ?_
  obtain ⟨v5, e6, hF⟩ := ob_s hF
  refine m_getR X hp e6 kJ2 (Nat.le_of_ble_eq_true rfl) q234 dJ2_add_13 ?_
  refine lv_aload_n hx hb dJ2_add_16 rfl (lv_at hl 0 rfl) ?_
  obtain ⟨v7, e8, hF⟩ := ob_s hF
  refine m_getI X hp e8 kJ2 (Nat.le_of_ble_eq_true rfl) q235 dJ2_add_17 ?_
  obtain ⟨⟨S12, M11, n13, z14⟩, e9, hF⟩ := ob_s hF
  have hc := mn_J2_add_2 e9
  have hm := (mn_J2_add_23 (V := V)) hF
  refine m_callV (As := [.ref x1, .ref v5, .int v7]) (rest := []) X hp (w_J2_add_2 hV e9) q317 q319 qs0 q138 q320 3 rfl ds_J2_add_2 ⟨Nat.le_of_ble_eq_true rfl, Nat.le_of_ble_eq_true rfl⟩ 15 (T := TJ2) (N := 3) rfl (by decide) (rI_s e8).1 hl.1 rfl (Nat.le_of_ble_eq_true rfl) dJ2_add_20 ⟨by show _ ≤ n' - nS; omega, by show _ ≤ z' - zS; omega⟩ (fun H locs hp => ?_)
  refine W.widen (k := n13 - nS) (n := z14 - zS) (by omega) (by omega) ?_
  exact b_J2_add_23 hV X _ _ _ _  _ _ _ (by omega) (by omega) hp (lv_sub hl [] rfl) hF
def f_J2_add (V : Nat → Nat) (S : mSh) (M : mMm) (n z : Nat) (x0 : Nat) (x1 : Nat) : Option (Int32 × mSh × mMm × Nat × Nat) := (fb_J2_add_0 V S M n z x0 x1)
theorem mn_J2_add {x0 : Nat} {x1 : Nat} {r : Int32} {S' : mSh} {M' : mMm} {n' z' : Nat} {S : mSh} {M : mMm} {n z : Nat} (hF : f_J2_add V S M n z x0 x1 = some (r, S', M', n', z')) : n ≤ n' ∧ z ≤ z' := by
  unfold f_J2_add at hF
  exact mn_J2_add_0 hF
theorem w_J2_add {x0 : Nat} {x1 : Nat} {r : Int32} {S' : mSh} {M' : mMm} {n' z' : Nat} {S : mSh} {M : mMm} {n z : Nat} (hV : mV V n0 P) (hF : f_J2_add V S M n z x0 x1 = some (r, S', M', n', z')) : mCt l D n0 P yJ2_add cJ2_add 2 (some .boolean) 6 170 (n' - n) (z' - z) [.ref x0, .ref x1] S M n (some (.int r)) S' M' n' := by
  refine m_ofW (by decide) (Nat.le_of_ble_eq_true rfl) (fun p e s m below meth c X hnm hp ls hl => ?_)
  unfold f_J2_add at hF
  refine W.widen (k := n - n) (n := z - z) (by omega) (by omega) ?_
  exact b_J2_add_0 hV X _ _ _ _ _ _ _ _ _ (Nat.le_refl _) (Nat.le_refl _) hp hl hF
end
section
variable {l : Launch} {D : va_G} {n0 : Nat} {P : mP} {V : Nat → Nat} {p : Program} {e : Env} {s : State} {m : MethodId} {args : Array Value} {below : List Frame} {meth : Method} {c : Code}
abbrev Rm_J2_init (mc ms : Nat) : Room := { frames := 3, cells := mc, slots := ms, locals := 100 }
def fb_J2_init_0 (V : Nat → Nat) (S : mSh) (M : mMm) (n z : Nat) (x0 : Nat) : Option (mSh × mMm × Nat × Nat) := ob (f_J1_init S M x0) fun M3 => ob (wF S M3 x0 15 1 (.ref (V 0))) fun M4 => some (S, M4, n, z)
theorem mn_J2_init_0 {S' : mSh} {M' : mMm} {n' z' : Nat} : ∀ {S : mSh} {M : mMm} {n z : Nat} {x0 : Nat}, fb_J2_init_0 V S M n z x0 = some (S', M', n', z') → n ≤ n' ∧ z ≤ z' := by
  intro S M n z x0 hF
  unfold fb_J2_init_0 at hF
  obtain ⟨M3, e1, hF⟩ := ob_s hF
  obtain ⟨M4, e5, hF⟩ := ob_s hF
  cases hF
  exact ⟨Nat.le_refl _, Nat.le_refl _⟩
theorem b_J2_init_0 {S' : mSh} {M' : mMm} {n' z' : Nat} {nS zS : Nat} (hV : mV V n0 P) (hnm : meth.name = "<init>") (X : mCx D n0 P p m c cJ2_init 1 s args yJ2_init.cls meth none) : ∀ (S : mSh) (M : mMm) (n z : Nat) (x0 : Nat) (H : Heap) (locs : List Loc) (ls : Array Slot), nS ≤ n → zS ≤ z → mHp D n0 S M n s H locs → lv_has ls 1 [(0, .ref x0)] → fb_J2_init_0 V S M n z x0 = some (S', M', n', z') → W p l e (Rm_J2_init (n' - nS) (z' - zS)) s m args below meth c H locs (n - nS) (z - zS) (MQ below (mQ D n0 none S' M' n') args s (n' - nS) (z' - zS) (mA n0)) (F0 m 0 ls []) := by
  have hx := X.1.1
  have hb := X.1.2.1
  have hown := X.1.2.2.2.1
  have hts := X.1.2.2.2.2
  intro S M n z x0 H locs ls hn hz hp hl hF
  have hm0 := mn_J2_init_0 hF
  unfold fb_J2_init_0 at hF
  refine lv_aload_n hx hb dJ2_init_0 rfl (lv_at hl 0 rfl) ?_
  obtain ⟨M3, e1, hF⟩ := ob_s hF
  refine m_callI (As := []) (rest := []) X hp (w_J1_init e1) q225 q226 q137 q227 rfl 0 rfl ds_J1_init ⟨Nat.le_of_ble_eq_true rfl, Nat.le_of_ble_eq_true rfl⟩ hl.1 rfl (Nat.le_of_ble_eq_true rfl) dJ2_init_1 ⟨by show _ + 0 ≤ n' - nS; omega, by show _ + 0 ≤ z' - zS; omega⟩ (fun H locs hp => ?_)
  refine lv_aload_n hx hb dJ2_init_4 rfl (lv_at hl 0 rfl) ?_
  refine m_gets X hp (mV_0 hV _ _ X.2.1.2.2.2.1) q232 dJ2_init_5 ?_
  obtain ⟨M4, e5, hF⟩ := ob_s hF
  refine m_putW X hp e5 kJ2 (Nat.le_of_ble_eq_true rfl) q234 rfl rfl rfl dJ2_init_8 (fun H locs hp => ?_)
  cases hF
  exact m_vret X hp dJ2_init_11
def f_J2_init (V : Nat → Nat) (S : mSh) (M : mMm) (n z : Nat) (x0 : Nat) : Option (mSh × mMm × Nat × Nat) := (fb_J2_init_0 V S M n z x0)
theorem mn_J2_init {x0 : Nat} {S' : mSh} {M' : mMm} {n' z' : Nat} {S : mSh} {M : mMm} {n z : Nat} (hF : f_J2_init V S M n z x0 = some (S', M', n', z')) : n ≤ n' ∧ z ≤ z' := by
  unfold f_J2_init at hF
  exact mn_J2_init_0 hF
theorem w_J2_init {x0 : Nat} {S' : mSh} {M' : mMm} {n' z' : Nat} {S : mSh} {M : mMm} {n z : Nat} (hV : mV V n0 P) (hF : f_J2_init V S M n z x0 = some (S', M', n', z')) : mCt l D n0 P yJ2_init cJ2_init 1 none 3 100 (n' - n) (z' - z) [.ref x0] S M n none S' M' n' := by
  refine m_ofW (by decide) (Nat.le_of_ble_eq_true rfl) (fun p e s m below meth c X hnm hp ls hl => ?_)
  unfold f_J2_init at hF
  refine W.widen (k := n - n) (n := z - z) (by omega) (by omega) ?_
  exact b_J2_init_0 hV hnm X _ _ _ _ _ _ _ _ (Nat.le_refl _) (Nat.le_refl _) hp hl hF
end
section
variable {l : Launch} {D : va_G} {n0 : Nat} {P : mP} {V : Nat → Nat} {p : Program} {e : Env} {s : State} {m : MethodId} {args : Array Value} {below : List Frame} {meth : Method} {c : Code}
abbrev Rm_X3_init (mc ms : Nat) : Room := { frames := 1, cells := mc, slots := ms, locals := 60 }
def fb_X3_init_11 (V : Nat → Nat) (S : mSh) (M : mMm) (n z : Nat) (y0 : Nat) (y1 : Nat) : Option (mSh × mMm × Nat × Nat) := ob (wF S M y1 4 0 (.ref y0)) fun M2 => some (S, M2, n, z)
theorem mn_X3_init_11 {S' : mSh} {M' : mMm} {n' z' : Nat} : ∀ {S : mSh} {M : mMm} {n z : Nat} {y0 : Nat} {y1 : Nat}, fb_X3_init_11 V S M n z y0 y1 = some (S', M', n', z') → n ≤ n' ∧ z ≤ z' := by
  intro S M n z y0 y1 hF
  unfold fb_X3_init_11 at hF
  obtain ⟨M2, e3, hF⟩ := ob_s hF
  cases hF
  exact ⟨Nat.le_refl _, Nat.le_refl _⟩
theorem b_X3_init_11 {S' : mSh} {M' : mMm} {n' z' : Nat} {nS zS : Nat} (hV : mV V n0 P) (hnm : meth.name = "<init>") (X : mCx D n0 P p m c cX3_init 2 s args yX3_init.cls meth none) : ∀ (S : mSh) (M : mMm) (n z : Nat) (y0 : Nat) (y1 : Nat) (H : Heap) (locs : List Loc) (ls : Array Slot), nS ≤ n → zS ≤ z → mHp D n0 S M n s H locs → lv_has ls 2 [] → fb_X3_init_11 V S M n z y0 y1 = some (S', M', n', z') → W p l e (Rm_X3_init (n' - nS) (z' - zS)) s m args below meth c H locs (n - nS) (z - zS) (MQ below (mQ D n0 none S' M' n') args s (n' - nS) (z' - zS) (mA n0)) (F0 m 11 ls [.ref y0, .ref y1]) := by
  have hx := X.1.1
  have hb := X.1.2.1
  have hown := X.1.2.2.2.1
  have hts := X.1.2.2.2.2
  intro S M n z y0 y1 H locs ls hn hz hp hl hF
  have hm0 := mn_X3_init_11 hF
  unfold fb_X3_init_11 at hF
  obtain ⟨M2, e3, hF⟩ := ob_s hF
  refine m_putWF X hp e3 kX3 (Nat.le_of_ble_eq_true rfl) q212 rfl hnm rfl rfl rfl dX3_init_11 (fun H locs hp => ?_)
  cases hF
  exact m_vret X hp dX3_init_14
def fb_X3_init_0 (V : Nat → Nat) (S : mSh) (M : mMm) (n z : Nat) (x0 : Nat) (x1 : Int32) : Option (mSh × mMm × Nat × Nat) := gd (¬ x1 < 0 ∧ x1.toNatClampNeg ≤ 1000000) ((fb_X3_init_11 V (mS2 S n x1.toNatClampNeg (2 : Int32).toNatClampNeg) (mM2 M n x1.toNatClampNeg) (n + 1 + x1.toNatClampNeg) (z + x1.toNatClampNeg + x1.toNatClampNeg * (2 : Int32).toNatClampNeg)  n x0))
theorem mn_X3_init_0 {S' : mSh} {M' : mMm} {n' z' : Nat} : ∀ {S : mSh} {M : mMm} {n z : Nat} {x0 : Nat} {x1 : Int32}, fb_X3_init_0 V S M n z x0 x1 = some (S', M', n', z') → n ≤ n' ∧ z ≤ z' := by
  intro S M n z x0 x1 hF
  unfold fb_X3_init_0 at hF
  obtain ⟨g1, hF⟩ := gd_s hF
  have h9 := (mn_X3_init_11 (V := V)) hF
  exact ⟨by omega, by omega⟩
theorem b_X3_init_0 {S' : mSh} {M' : mMm} {n' z' : Nat} {nS zS : Nat} (hV : mV V n0 P) (hnm : meth.name = "<init>") (X : mCx D n0 P p m c cX3_init 2 s args yX3_init.cls meth none) : ∀ (S : mSh) (M : mMm) (n z : Nat) (x0 : Nat) (x1 : Int32) (H : Heap) (locs : List Loc) (ls : Array Slot), nS ≤ n → zS ≤ z → mHp D n0 S M n s H locs → lv_has ls 2 [(0, .ref x0), (1, .int x1)] → fb_X3_init_0 V S M n z x0 x1 = some (S', M', n', z') → W p l e (Rm_X3_init (n' - nS) (z' - zS)) s m args below meth c H locs (n - nS) (z - zS) (MQ below (mQ D n0 none S' M' n') args s (n' - nS) (z' - zS) (mA n0)) (F0 m 0 ls []) := by
  have hx := X.1.1
  have hb := X.1.2.1
  have hown := X.1.2.2.2.1
  have hts := X.1.2.2.2.2
  intro S M n z x0 x1 H locs ls hn hz hp hl hF
  have hm0 := mn_X3_init_0 hF
  unfold fb_X3_init_0 at hF
  refine lv_aload_n hx hb dX3_init_0 rfl (lv_at hl 0 rfl) ?_
  refine m_objInit X q210 q168 q169 hl.1 (Nat.le_of_ble_eq_true rfl) (Nat.le_of_ble_eq_true rfl) dX3_init_1 ?_
  refine lv_aload_n hx hb dX3_init_4 rfl (lv_at hl 0 rfl) ?_
  refine lv_iload_n hx hb dX3_init_5 rfl (lv_at hl 1 rfl) ?_
  refine lv_iconst (v := 2) hx hb dX3_init_6 (by decide) ?_
  obtain ⟨g1, hF⟩ := gd_s hF
  have hm := (mn_X3_init_11 (V := V)) hF
  refine m_multi2 X hp q211 q203 q201 g1.1 (by decide) (by have := g1.2; omega) (by decide) (by show _ ≤ n' - nS; omega) (by show _ ≤ z' - zS; omega) dX3_init_7 (fun H hp => ?_)
  refine W.widen (k := (n + 1 + x1.toNatClampNeg) - nS) (n := (z + x1.toNatClampNeg + x1.toNatClampNeg * (2 : Int32).toNatClampNeg) - zS) (by omega) (by omega) ?_
  exact b_X3_init_11 hV hnm X _ _ _ _  _ _ _ _ _ (by omega) (by omega) hp (lv_sub hl [] rfl) hF
def f_X3_init (V : Nat → Nat) (S : mSh) (M : mMm) (n z : Nat) (x0 : Nat) (x1 : Int32) : Option (mSh × mMm × Nat × Nat) := (fb_X3_init_0 V S M n z x0 x1)
theorem mn_X3_init {x0 : Nat} {x1 : Int32} {S' : mSh} {M' : mMm} {n' z' : Nat} {S : mSh} {M : mMm} {n z : Nat} (hF : f_X3_init V S M n z x0 x1 = some (S', M', n', z')) : n ≤ n' ∧ z ≤ z' := by
  unfold f_X3_init at hF
  exact mn_X3_init_0 hF
theorem w_X3_init {x0 : Nat} {x1 : Int32} {S' : mSh} {M' : mMm} {n' z' : Nat} {S : mSh} {M : mMm} {n z : Nat} (hV : mV V n0 P) (hF : f_X3_init V S M n z x0 x1 = some (S', M', n', z')) : mCt l D n0 P yX3_init cX3_init 2 none 1 60 (n' - n) (z' - z) [.ref x0, .int x1] S M n none S' M' n' := by
  refine m_ofW (by decide) (Nat.le_of_ble_eq_true rfl) (fun p e s m below meth c X hnm hp ls hl => ?_)
  unfold f_X3_init at hF
  refine W.widen (k := n - n) (n := z - z) (by omega) (by omega) ?_
  exact b_X3_init_0 hV hnm X _ _ _ _ _ _ _ _ _ (Nat.le_refl _) (Nat.le_refl _) hp hl hF
end
section
variable {l : Launch} {D : va_G} {n0 : Nat} {P : mP} {V : Nat → Nat} {p : Program} {e : Env} {s : State} {m : MethodId} {args : Array Value} {below : List Frame} {meth : Method} {c : Code}
abbrev Rm_X1_init (mc ms : Nat) : Room := { frames := 7, cells := mc, slots := ms, locals := 191 }
def fb_X1_init_183 (V : Nat → Nat) (k141 : mSh → mMm → Nat → Nat → Nat → Int32 → Option (mSh × mMm × Nat × Nat)) (S : mSh) (M : mMm) (n z : Nat) (x0 : Nat) (x1 : Int32) (y0 : Int32) : Option (mSh × mMm × Nat × Nat) := nm (x1 + (1 : Int32)) fun v105 => (k141 S M n z x0 v105)
theorem mn_X1_init_183 {S' : mSh} {M' : mMm} {n' z' : Nat} (k141 : mSh → mMm → Nat → Nat → Nat → Int32 → Option (mSh × mMm × Nat × Nat)) (hmk141 : ∀ {S : mSh} {M : mMm} {n z : Nat} {x0 : Nat} {x1 : Int32}, k141 S M n z x0 x1 = some (S', M', n', z') → n ≤ n' ∧ z ≤ z') : ∀ {S : mSh} {M : mMm} {n z : Nat} {x0 : Nat} {x1 : Int32} {y0 : Int32}, fb_X1_init_183 V k141 S M n z x0 x1 y0 = some (S', M', n', z') → n ≤ n' ∧ z ≤ z' := by
  intro S M n z x0 x1 y0 hF
  unfold fb_X1_init_183 at hF
  obtain ⟨v105, ev106⟩ : ∃ y : Int32, y = x1 + (1 : Int32) := ⟨_, rfl⟩
  have hF := nm_s hF rfl
  have h9 := hmk141 hF
  exact ⟨by omega, by omega⟩
theorem b_X1_init_183 {S' : mSh} {M' : mMm} {n' z' : Nat} {nS zS : Nat} (hV : mV V n0 P) (hnm : meth.name = "<init>") (X : mCx D n0 P p m c cX1_init 2 s args yX1_init.cls meth none) (k141 : mSh → mMm → Nat → Nat → Nat → Int32 → Option (mSh × mMm × Nat × Nat)) (hmk141 : ∀ {S : mSh} {M : mMm} {n z : Nat} {x0 : Nat} {x1 : Int32}, k141 S M n z x0 x1 = some (S', M', n', z') → n ≤ n' ∧ z ≤ z') (hk141 : ∀ (S : mSh) (M : mMm) (n z : Nat) (x0 : Nat) (x1 : Int32) (H : Heap) (locs : List Loc) (ls : Array Slot), nS ≤ n → zS ≤ z → mHp D n0 S M n s H locs → lv_has ls 2 [(0, .ref x0), (1, .int x1)] → k141 S M n z x0 x1 = some (S', M', n', z') → W p l e (Rm_X1_init (n' - nS) (z' - zS)) s m args below meth c H locs (n - nS) (z - zS) (MQ below (mQ D n0 none S' M' n') args s (n' - nS) (z' - zS) (mA n0)) (F0 m 141 ls [])) : ∀ (S : mSh) (M : mMm) (n z : Nat) (x0 : Nat) (x1 : Int32) (y0 : Int32) (H : Heap) (locs : List Loc) (ls : Array Slot), nS ≤ n → zS ≤ z → mHp D n0 S M n s H locs → lv_has ls 2 [(0, .ref x0), (1, .int x1)] → fb_X1_init_183 V k141 S M n z x0 x1 y0 = some (S', M', n', z') → W p l e (Rm_X1_init (n' - nS) (z' - zS)) s m args below meth c H locs (n - nS) (z - zS) (MQ below (mQ D n0 none S' M' n') args s (n' - nS) (z' - zS) (mA n0)) (F0 m 183 ls [.int y0]) := by
  have hx := X.1.1
  have hb := X.1.2.1
  have hown := X.1.2.2.2.1
  have hts := X.1.2.2.2.2
  intro S M n z x0 x1 y0 H locs ls hn hz hp hl hF
  have hm0 := mn_X1_init_183 _ hmk141 hF
  unfold fb_X1_init_183 at hF
  refine lv_pop hx hb dX1_init_183 rfl ?_
  obtain ⟨v105, ev106⟩ : ∃ y : Int32, y = x1 + (1 : Int32) := ⟨_, rfl⟩
  have hF := nm_s hF ev106
  refine lv_iinc (v := v105) (lv' := [(1, .int v105), (0, .ref x0)]) hx hb dX1_init_184 hl (k := 1) rfl (by rw [ev106]; rfl) (by decide) rfl (fun ls hl => ?_)
  refine lv_goto (tgt := 141) hx hb dX1_init_187 (by decide) ?_
  exact hk141 _ _ _ _ _ _ _ _ _ (by omega) (by omega) hp (lv_sub hl [1, 0] rfl) hF
def fb_X1_init_180 (V : Nat → Nat) (k141 : mSh → mMm → Nat → Nat → Nat → Int32 → Option (mSh × mMm × Nat × Nat)) (S : mSh) (M : mMm) (n z : Nat) (x0 : Nat) (x1 : Int32) (y0 : Nat) (y1 : Nat) : Option (mSh × mMm × Nat × Nat) := gd ((S y1).1 = 15) (ob (f_J2_add V S M n z y1 y0) fun ⟨v100, S102, M101, n103, z104⟩ => (fb_X1_init_183 V k141 S102 M101 n103 z104 x0 x1 v100))
theorem mn_X1_init_180 {S' : mSh} {M' : mMm} {n' z' : Nat} (k141 : mSh → mMm → Nat → Nat → Nat → Int32 → Option (mSh × mMm × Nat × Nat)) (hmk141 : ∀ {S : mSh} {M : mMm} {n z : Nat} {x0 : Nat} {x1 : Int32}, k141 S M n z x0 x1 = some (S', M', n', z') → n ≤ n' ∧ z ≤ z') : ∀ {S : mSh} {M : mMm} {n z : Nat} {x0 : Nat} {x1 : Int32} {y0 : Nat} {y1 : Nat}, fb_X1_init_180 V k141 S M n z x0 x1 y0 y1 = some (S', M', n', z') → n ≤ n' ∧ z ≤ z' := by
  intro S M n z x0 x1 y0 y1 hF
  unfold fb_X1_init_180 at hF
  obtain ⟨g98, hF⟩ := gd_s hF
  obtain ⟨⟨v100, S102, M101, n103, z104⟩, e99, hF⟩ := ob_s hF
  have hc := mn_J2_add e99
  have h9 := (mn_X1_init_183 (V := V) k141 hmk141) hF
  exact ⟨by omega, by omega⟩
theorem b_X1_init_180 {S' : mSh} {M' : mMm} {n' z' : Nat} {nS zS : Nat} (hV : mV V n0 P) (hnm : meth.name = "<init>") (X : mCx D n0 P p m c cX1_init 2 s args yX1_init.cls meth none) (k141 : mSh → mMm → Nat → Nat → Nat → Int32 → Option (mSh × mMm × Nat × Nat)) (hmk141 : ∀ {S : mSh} {M : mMm} {n z : Nat} {x0 : Nat} {x1 : Int32}, k141 S M n z x0 x1 = some (S', M', n', z') → n ≤ n' ∧ z ≤ z') (hk141 : ∀ (S : mSh) (M : mMm) (n z : Nat) (x0 : Nat) (x1 : Int32) (H : Heap) (locs : List Loc) (ls : Array Slot), nS ≤ n → zS ≤ z → mHp D n0 S M n s H locs → lv_has ls 2 [(0, .ref x0), (1, .int x1)] → k141 S M n z x0 x1 = some (S', M', n', z') → W p l e (Rm_X1_init (n' - nS) (z' - zS)) s m args below meth c H locs (n - nS) (z - zS) (MQ below (mQ D n0 none S' M' n') args s (n' - nS) (z' - zS) (mA n0)) (F0 m 141 ls [])) : ∀ (S : mSh) (M : mMm) (n z : Nat) (x0 : Nat) (x1 : Int32) (y0 : Nat) (y1 : Nat) (H : Heap) (locs : List Loc) (ls : Array Slot), nS ≤ n → zS ≤ z → mHp D n0 S M n s H locs → lv_has ls 2 [(0, .ref x0), (1, .int x1)] → fb_X1_init_180 V k141 S M n z x0 x1 y0 y1 = some (S', M', n', z') → W p l e (Rm_X1_init (n' - nS) (z' - zS)) s m args below meth c H locs (n - nS) (z - zS) (MQ below (mQ D n0 none S' M' n') args s (n' - nS) (z' - zS) (mA n0)) (F0 m 180 ls [.ref y0, .ref y1]) := by
  have hx := X.1.1
  have hb := X.1.2.1
  have hown := X.1.2.2.2.1
  have hts := X.1.2.2.2.2
  intro S M n z x0 x1 y0 y1 H locs ls hn hz hp hl hF
  have hm0 := mn_X1_init_180 _ hmk141 hF
  unfold fb_X1_init_180 at hF
  obtain ⟨g98, hF⟩ := gd_s hF
  obtain ⟨⟨v100, S102, M101, n103, z104⟩, e99, hF⟩ := ob_s hF
  have hc := mn_J2_add e99
  have hm := (mn_X1_init_183 (V := V) k141 hmk141) hF
  refine m_callV (As := [.ref y0]) (rest := []) X hp (w_J2_add hV e99) q313 q314 q315 q138 q316 1 rfl ds_J2_add ⟨Nat.le_of_ble_eq_true rfl, Nat.le_of_ble_eq_true rfl⟩ 15 (T := TJ2) (N := 3) rfl (by decide) g98 hl.1 rfl (Nat.le_of_ble_eq_true rfl) dX1_init_180 ⟨by show _ ≤ n' - nS; omega, by show _ ≤ z' - zS; omega⟩ (fun H locs hp => ?_)
  refine W.widen (k := n103 - nS) (n := z104 - zS) (by omega) (by omega) ?_
  exact b_X1_init_183 hV hnm X k141 hmk141 hk141 _ _ _ _ _ _ _ _ _ _ (by omega) (by omega) hp (lv_sub hl [0, 1] rfl) hF
def fb_X1_init_176 (V : Nat → Nat) (k141 : mSh → mMm → Nat → Nat → Nat → Int32 → Option (mSh × mMm × Nat × Nat)) (S : mSh) (M : mMm) (n z : Nat) (x0 : Nat) (x1 : Int32) (y0 : Nat) (y1 : Nat) : Option (mSh × mMm × Nat × Nat) := ob (f_J2_init V S M n z y0) fun ⟨S95, M94, n96, z97⟩ => (fb_X1_init_180 V k141 S95 M94 n96 z97 x0 x1 y0 y1)
theorem mn_X1_init_176 {S' : mSh} {M' : mMm} {n' z' : Nat} (k141 : mSh → mMm → Nat → Nat → Nat → Int32 → Option (mSh × mMm × Nat × Nat)) (hmk141 : ∀ {S : mSh} {M : mMm} {n z : Nat} {x0 : Nat} {x1 : Int32}, k141 S M n z x0 x1 = some (S', M', n', z') → n ≤ n' ∧ z ≤ z') : ∀ {S : mSh} {M : mMm} {n z : Nat} {x0 : Nat} {x1 : Int32} {y0 : Nat} {y1 : Nat}, fb_X1_init_176 V k141 S M n z x0 x1 y0 y1 = some (S', M', n', z') → n ≤ n' ∧ z ≤ z' := by
  intro S M n z x0 x1 y0 y1 hF
  unfold fb_X1_init_176 at hF
  obtain ⟨⟨S95, M94, n96, z97⟩, e92, hF⟩ := ob_s hF
  have hc := mn_J2_init e92
  have h9 := (mn_X1_init_180 (V := V) k141 hmk141) hF
  exact ⟨by omega, by omega⟩
theorem b_X1_init_176 {S' : mSh} {M' : mMm} {n' z' : Nat} {nS zS : Nat} (hV : mV V n0 P) (hnm : meth.name = "<init>") (X : mCx D n0 P p m c cX1_init 2 s args yX1_init.cls meth none) (k141 : mSh → mMm → Nat → Nat → Nat → Int32 → Option (mSh × mMm × Nat × Nat)) (hmk141 : ∀ {S : mSh} {M : mMm} {n z : Nat} {x0 : Nat} {x1 : Int32}, k141 S M n z x0 x1 = some (S', M', n', z') → n ≤ n' ∧ z ≤ z') (hk141 : ∀ (S : mSh) (M : mMm) (n z : Nat) (x0 : Nat) (x1 : Int32) (H : Heap) (locs : List Loc) (ls : Array Slot), nS ≤ n → zS ≤ z → mHp D n0 S M n s H locs → lv_has ls 2 [(0, .ref x0), (1, .int x1)] → k141 S M n z x0 x1 = some (S', M', n', z') → W p l e (Rm_X1_init (n' - nS) (z' - zS)) s m args below meth c H locs (n - nS) (z - zS) (MQ below (mQ D n0 none S' M' n') args s (n' - nS) (z' - zS) (mA n0)) (F0 m 141 ls [])) : ∀ (S : mSh) (M : mMm) (n z : Nat) (x0 : Nat) (x1 : Int32) (y0 : Nat) (y1 : Nat) (H : Heap) (locs : List Loc) (ls : Array Slot), nS ≤ n → zS ≤ z → mHp D n0 S M n s H locs → lv_has ls 2 [(0, .ref x0), (1, .int x1)] → fb_X1_init_176 V k141 S M n z x0 x1 y0 y1 = some (S', M', n', z') → W p l e (Rm_X1_init (n' - nS) (z' - zS)) s m args below meth c H locs (n - nS) (z - zS) (MQ below (mQ D n0 none S' M' n') args s (n' - nS) (z' - zS) (mA n0)) (F0 m 176 ls [.ref y0, .ref y1]) := by
  have hx := X.1.1
  have hb := X.1.2.1
  have hown := X.1.2.2.2.1
  have hts := X.1.2.2.2.2
  intro S M n z x0 x1 y0 y1 H locs ls hn hz hp hl hF
  have hm0 := mn_X1_init_176 _ hmk141 hF
  unfold fb_X1_init_176 at hF
  refine lv_dup hx hb dX1_init_176 rfl ?_
  obtain ⟨⟨S95, M94, n96, z97⟩, e92, hF⟩ := ob_s hF
  have hc := mn_J2_init e92
  have hm := (mn_X1_init_180 (V := V) k141 hmk141) hF
  refine m_callI (As := []) (rest := [.ref y0, .ref y1]) X hp (w_J2_init hV e92) q222 q223 q138 q224 rfl 0 rfl ds_J2_init ⟨Nat.le_of_ble_eq_true rfl, Nat.le_of_ble_eq_true rfl⟩ hl.1 rfl (Nat.le_of_ble_eq_true rfl) dX1_init_177 ⟨by show _ ≤ n' - nS; omega, by show _ ≤ z' - zS; omega⟩ (fun H locs hp => ?_)
  refine W.widen (k := n96 - nS) (n := z97 - zS) (by omega) (by omega) ?_
  exact b_X1_init_180 hV hnm X k141 hmk141 hk141 _ _ _ _ _ _ _ _ _ _ _ (by omega) (by omega) hp (lv_sub hl [0, 1] rfl) hF
def fb_X1_init_155 (V : Nat → Nat) (k141 : mSh → mMm → Nat → Nat → Nat → Int32 → Option (mSh × mMm × Nat × Nat)) (S : mSh) (M : mMm) (n z : Nat) (x0 : Nat) (x1 : Int32) (y0 : Nat) (y1 : Int32) (y2 : Nat) : Option (mSh × mMm × Nat × Nat) := ob (f_X4_init S M y0) fun _ => gd ((S y0).1 = 5) (ob (wA S M y2 104 y1 (.ref y0)) fun M79 => ob (rR S M79 x0 2 1) fun v82 => ob (aR S M79 v82 104 x1) fun v84 => gd ((S v84).1 = 5) (ob (f_X4_goes S M79 v84) fun M89 => ob (rR S M89 x0 2 8) fun v90 => (fb_X1_init_176 V k141 (mS1 S n (15, 0)) (mM1 M89 n fun k => defaultValue (tyJ2 k)) (n + 1) (z + 3) x0 x1 n v90)))
theorem mn_X1_init_155 {S' : mSh} {M' : mMm} {n' z' : Nat} (k141 : mSh → mMm → Nat → Nat → Nat → Int32 → Option (mSh × mMm × Nat × Nat)) (hmk141 : ∀ {S : mSh} {M : mMm} {n z : Nat} {x0 : Nat} {x1 : Int32}, k141 S M n z x0 x1 = some (S', M', n', z') → n ≤ n' ∧ z ≤ z') : ∀ {S : mSh} {M : mMm} {n z : Nat} {x0 : Nat} {x1 : Int32} {y0 : Nat} {y1 : Int32} {y2 : Nat}, fb_X1_init_155 V k141 S M n z x0 x1 y0 y1 y2 = some (S', M', n', z') → n ≤ n' ∧ z ≤ z' := by
  intro S M n z x0 x1 y0 y1 y2 hF
  unfold fb_X1_init_155 at hF
  obtain ⟨_, e77, hF⟩ := ob_s hF
  obtain ⟨g81, hF⟩ := gd_s hF
  obtain ⟨M79, e80, hF⟩ := ob_s hF
  obtain ⟨v82, e83, hF⟩ := ob_s hF
  obtain ⟨v84, e85, hF⟩ := ob_s hF
  obtain ⟨g86, hF⟩ := gd_s hF
  obtain ⟨M89, e87, hF⟩ := ob_s hF
  obtain ⟨v90, e91, hF⟩ := ob_s hF
  have h9 := (mn_X1_init_176 (V := V) k141 hmk141) hF
  exact ⟨by omega, by omega⟩
theorem b_X1_init_155 {S' : mSh} {M' : mMm} {n' z' : Nat} {nS zS : Nat} (hV : mV V n0 P) (hnm : meth.name = "<init>") (X : mCx D n0 P p m c cX1_init 2 s args yX1_init.cls meth none) (k141 : mSh → mMm → Nat → Nat → Nat → Int32 → Option (mSh × mMm × Nat × Nat)) (hmk141 : ∀ {S : mSh} {M : mMm} {n z : Nat} {x0 : Nat} {x1 : Int32}, k141 S M n z x0 x1 = some (S', M', n', z') → n ≤ n' ∧ z ≤ z') (hk141 : ∀ (S : mSh) (M : mMm) (n z : Nat) (x0 : Nat) (x1 : Int32) (H : Heap) (locs : List Loc) (ls : Array Slot), nS ≤ n → zS ≤ z → mHp D n0 S M n s H locs → lv_has ls 2 [(0, .ref x0), (1, .int x1)] → k141 S M n z x0 x1 = some (S', M', n', z') → W p l e (Rm_X1_init (n' - nS) (z' - zS)) s m args below meth c H locs (n - nS) (z - zS) (MQ below (mQ D n0 none S' M' n') args s (n' - nS) (z' - zS) (mA n0)) (F0 m 141 ls [])) : ∀ (S : mSh) (M : mMm) (n z : Nat) (x0 : Nat) (x1 : Int32) (y0 : Nat) (y1 : Int32) (y2 : Nat) (H : Heap) (locs : List Loc) (ls : Array Slot), nS ≤ n → zS ≤ z → mHp D n0 S M n s H locs → lv_has ls 2 [(0, .ref x0), (1, .int x1)] → fb_X1_init_155 V k141 S M n z x0 x1 y0 y1 y2 = some (S', M', n', z') → W p l e (Rm_X1_init (n' - nS) (z' - zS)) s m args below meth c H locs (n - nS) (z - zS) (MQ below (mQ D n0 none S' M' n') args s (n' - nS) (z' - zS) (mA n0)) (F0 m 155 ls [.ref y0, .int y1, .ref y2]) := by
  have hx := X.1.1
  have hb := X.1.2.1
  have hown := X.1.2.2.2.1
  have hts := X.1.2.2.2.2
  intro S M n z x0 x1 y0 y1 y2 H locs ls hn hz hp hl hF
  have hm0 := mn_X1_init_155 _ hmk141 hF
  unfold fb_X1_init_155 at hF
  refine lv_dup hx hb dX1_init_155 rfl ?_
  obtain ⟨_, e77, hF⟩ := ob_s hF
  refine m_callIN (As := []) (rest := [.ref y0, .int y1, .ref y2]) X hp (w_X4_init e77) q247 q248 q139 q249 rfl 0 rfl ds_X4_init ⟨Nat.le_of_ble_eq_true rfl, Nat.le_of_ble_eq_true rfl⟩ hl.1 rfl (Nat.le_of_ble_eq_true rfl) dX1_init_156 ⟨by show _ + 0 ≤ n' - nS; omega, by show _ + 0 ≤ z' - zS; omega⟩ (fun H locs hp => ?_)
  obtain ⟨g81, hF⟩ := gd_s hF
  obtain ⟨M79, e80, hF⟩ := ob_s hF
  refine m_aaW 104 5 X hp e80 rfl (by decide) (r := (RX4, TX4, 11)) rfl (by decide) g81 dX1_init_159 (fun H locs hp => ?_)
  refine lv_aload_n hx hb dX1_init_160 rfl (lv_at hl 0 rfl) ?_
  obtain ⟨v82, e83, hF⟩ := ob_s hF
  refine m_getR X hp e83 kX1 (Nat.le_of_ble_eq_true rfl) q377 dX1_init_161 ?_
  refine lv_iload_n hx hb dX1_init_164 rfl (lv_at hl 1 rfl) ?_
  obtain ⟨v84, e85, hF⟩ := ob_s hF
  refine m_aaR 104 X hp e85 rfl (by decide) rfl dX1_init_165 ?_
  obtain ⟨g86, hF⟩ := gd_s hF
  obtain ⟨M89, e87, hF⟩ := ob_s hF
  refine m_callV (As := []) (rest := []) X hp (w_X4_goes e87) q305 q306 q307 q139 q308 0 rfl ds_X4_goes ⟨Nat.le_of_ble_eq_true rfl, Nat.le_of_ble_eq_true rfl⟩ 5 (T := TX4) (N := 11) rfl (by decide) g86 hl.1 rfl (Nat.le_of_ble_eq_true rfl) dX1_init_166 ⟨by show _ + 0 ≤ n' - nS; omega, by show _ + 0 ≤ z' - zS; omega⟩ (fun H locs hp => ?_)
  refine lv_aload_n hx hb dX1_init_169 rfl (lv_at hl 0 rfl) ?_
  obtain ⟨v90, e91, hF⟩ := ob_s hF
  refine m_getR X hp e91 kX1 (Nat.le_of_ble_eq_true rfl) q391 dX1_init_170 ?_
  have hm := (mn_X1_init_176 (V := V) k141 hmk141) hF
  refine m_new X hp kJ2 q220 q221 q138 (by show _ ≤ n' - nS; omega) (by show _ ≤ z' - zS; omega) dX1_init_173 (fun H hp => ?_)
  refine W.widen (k := n + 1 - nS) (n := z + 3 - zS) (by omega) (by omega) ?_
  exact b_X1_init_176 hV hnm X k141 hmk141 hk141 _ _ _ _ _ _ _ _ _ _ _ (by omega) (by omega) hp (lv_sub hl [0, 1] rfl) hF
def fb_X1_init_141 (V : Nat → Nat) : Nat → mSh → mMm → Nat → Nat → Nat → Int32 → Option (mSh × mMm × Nat × Nat)
  | 0, _, _, _, _, _, _ => none
  | t + 1, S, M, n, z, x0, x1 => (if (16 : Int32) ≤ x1 then some (S, M, n, z) else ob (rR S M x0 2 1) fun v75 => (fb_X1_init_155 V (fb_X1_init_141 V t) (mS1 S n (5, 0)) (mM1 M n fun k => defaultValue (tyX4 k)) (n + 1) (z + 11) x0 x1 n x1 v75))
theorem mn_X1_init_141 {S' : mSh} {M' : mMm} {n' z' : Nat} : ∀ {t : Nat} {S : mSh} {M : mMm} {n z : Nat} {x0 : Nat} {x1 : Int32}, fb_X1_init_141 V t S M n z x0 x1 = some (S', M', n', z') → n ≤ n' ∧ z ≤ z' := by
  intro t
  induction t with
  | zero =>
    intro S M n z x0 x1 hF
    have hF : none = some (S', M', n', z') := hF
    cases hF
  | succ t ihm =>
    intro S M n z x0 x1 hF
    rw [fb_X1_init_141] at hF
    rcases Decidable.em ((16 : Int32) ≤ x1) with c74 | c74
    · have hF := if_p c74 hF
      cases hF
      exact ⟨Nat.le_refl _, Nat.le_refl _⟩
    · have hF := if_n c74 hF
      obtain ⟨v75, e76, hF⟩ := ob_s hF
      have h9 := (mn_X1_init_155 (V := V) (fb_X1_init_141 V t) @ihm) hF
      exact ⟨by omega, by omega⟩
theorem b_X1_init_141 {S' : mSh} {M' : mMm} {n' z' : Nat} {nS zS : Nat} (hV : mV V n0 P) (hnm : meth.name = "<init>") (X : mCx D n0 P p m c cX1_init 2 s args yX1_init.cls meth none) : ∀ t : Nat, ∀ (S : mSh) (M : mMm) (n z : Nat) (x0 : Nat) (x1 : Int32) (H : Heap) (locs : List Loc) (ls : Array Slot), nS ≤ n → zS ≤ z → mHp D n0 S M n s H locs → lv_has ls 2 [(0, .ref x0), (1, .int x1)] → fb_X1_init_141 V t S M n z x0 x1 = some (S', M', n', z') → W p l e (Rm_X1_init (n' - nS) (z' - zS)) s m args below meth c H locs (n - nS) (z - zS) (MQ below (mQ D n0 none S' M' n') args s (n' - nS) (z' - zS) (mA n0)) (F0 m 141 ls []) := by
  have hx := X.1.1
  have hb := X.1.2.1
  have hown := X.1.2.2.2.1
  have hts := X.1.2.2.2.2
  intro t
  induction t with
  | zero =>
    intro S M n z x0 x1 H locs ls hn hz hp hl hF
    have hF : none = some (S', M', n', z') := hF
    cases hF
  | succ t ih =>
    intro S M n z x0 x1 H locs ls hn hz hp hl hF
    have ihm := @mn_X1_init_141 V S' M' n' z' t
    have hm0 := mn_X1_init_141 hF
    rw [fb_X1_init_141] at hF
    refine lv_iload_n hx hb dX1_init_141 rfl (lv_at hl 1 rfl) ?_
    refine lv_bipush (v := 16) hx hb dX1_init_142 (by decide) ?_
    refine lv_icmp_ge (tgt := 190) hx hb dX1_init_144 (by decide) (fun c74 => ?_) (fun c74 => ?_)
    · have hF := if_p c74 hF
      cases hF
      exact m_vret X hp dX1_init_190
    · have hF := if_n c74 hF
      refine lv_aload_n hx hb dX1_init_147 rfl (lv_at hl 0 rfl) ?_
      obtain ⟨v75, e76, hF⟩ := ob_s hF
      refine m_getR X hp e76 kX1 (Nat.le_of_ble_eq_true rfl) q377 dX1_init_148 ?_
      refine lv_iload_n hx hb dX1_init_151 rfl (lv_at hl 1 rfl) ?_
      have hm := (mn_X1_init_155 (V := V) (fb_X1_init_141 V t) @ihm) hF
      refine m_new X hp kX4 q176 q246 q139 (by show _ ≤ n' - nS; omega) (by show _ ≤ z' - zS; omega) dX1_init_152 (fun H hp => ?_)
      refine W.widen (k := n + 1 - nS) (n := z + 11 - zS) (by omega) (by omega) ?_
      exact b_X1_init_155 hV hnm X (fb_X1_init_141 V t) @ihm ih _ _ _ _ _ _ _ _ _ _ _ _ (by omega) (by omega) hp (lv_sub hl [0, 1] rfl) hF
def fb_X1_init_136 (V : Nat → Nat) (S : mSh) (M : mMm) (n z : Nat) (x0 : Nat) (y0 : Nat) (y1 : Nat) : Option (mSh × mMm × Nat × Nat) := ob (wF S M y1 2 9 (.ref y0)) fun M70 => nm ((0 : Int32)) fun v72 => (fb_X1_init_141 V FU S M70 n z x0 v72)
theorem mn_X1_init_136 {S' : mSh} {M' : mMm} {n' z' : Nat} : ∀ {S : mSh} {M : mMm} {n z : Nat} {x0 : Nat} {y0 : Nat} {y1 : Nat}, fb_X1_init_136 V S M n z x0 y0 y1 = some (S', M', n', z') → n ≤ n' ∧ z ≤ z' := by
  intro S M n z x0 y0 y1 hF
  unfold fb_X1_init_136 at hF
  obtain ⟨M70, e71, hF⟩ := ob_s hF
  have hF := nm_s hF rfl
  have h9 := (mn_X1_init_141 (V := V)) hF
  exact ⟨by omega, by omega⟩
theorem b_X1_init_136 {S' : mSh} {M' : mMm} {n' z' : Nat} {nS zS : Nat} (hV : mV V n0 P) (hnm : meth.name = "<init>") (X : mCx D n0 P p m c cX1_init 2 s args yX1_init.cls meth none) : ∀ (S : mSh) (M : mMm) (n z : Nat) (x0 : Nat) (y0 : Nat) (y1 : Nat) (H : Heap) (locs : List Loc) (ls : Array Slot), nS ≤ n → zS ≤ z → mHp D n0 S M n s H locs → lv_has ls 2 [(0, .ref x0)] → fb_X1_init_136 V S M n z x0 y0 y1 = some (S', M', n', z') → W p l e (Rm_X1_init (n' - nS) (z' - zS)) s m args below meth c H locs (n - nS) (z - zS) (MQ below (mQ D n0 none S' M' n') args s (n' - nS) (z' - zS) (mA n0)) (F0 m 136 ls [.ref y0, .ref y1]) := by
  have hx := X.1.1
  have hb := X.1.2.1
  have hown := X.1.2.2.2.1
  have hts := X.1.2.2.2.2
  intro S M n z x0 y0 y1 H locs ls hn hz hp hl hF
  have hm0 := mn_X1_init_136 hF
  unfold fb_X1_init_136 at hF
  obtain ⟨M70, e71, hF⟩ := ob_s hF
  refine m_putW X hp e71 kX1 (Nat.le_of_ble_eq_true rfl) q393 rfl rfl rfl dX1_init_136 (fun H locs hp => ?_)
  refine lv_iconst (v := 0) hx hb dX1_init_139 (by decide) ?_
  refine lv_topi (fun v72 ev73 => ?_)
  have hF := nm_s hF ev73
  refine lv_istore_n (lv' := [(1, .int v72), (0, .ref x0)]) hx hb dX1_init_140 rfl hl (by decide) rfl (fun ls hl => ?_)
  exact b_X1_init_141 hV hnm X _ _ _ _ _ _ _ _ _ _ (by omega) (by omega) hp (lv_sub hl [1, 0] rfl) hF
def fb_X1_init_132 (V : Nat → Nat) (S : mSh) (M : mMm) (n z : Nat) (x0 : Nat) (y0 : Nat) (y1 : Nat) : Option (mSh × mMm × Nat × Nat) := ob (f_J2_init V S M n z y0) fun ⟨S67, M66, n68, z69⟩ => (fb_X1_init_136 V S67 M66 n68 z69 x0 y0 y1)
theorem mn_X1_init_132 {S' : mSh} {M' : mMm} {n' z' : Nat} : ∀ {S : mSh} {M : mMm} {n z : Nat} {x0 : Nat} {y0 : Nat} {y1 : Nat}, fb_X1_init_132 V S M n z x0 y0 y1 = some (S', M', n', z') → n ≤ n' ∧ z ≤ z' := by
  intro S M n z x0 y0 y1 hF
  unfold fb_X1_init_132 at hF
  obtain ⟨⟨S67, M66, n68, z69⟩, e64, hF⟩ := ob_s hF
  have hc := mn_J2_init e64
  have h9 := (mn_X1_init_136 (V := V)) hF
  exact ⟨by omega, by omega⟩
theorem b_X1_init_132 {S' : mSh} {M' : mMm} {n' z' : Nat} {nS zS : Nat} (hV : mV V n0 P) (hnm : meth.name = "<init>") (X : mCx D n0 P p m c cX1_init 2 s args yX1_init.cls meth none) : ∀ (S : mSh) (M : mMm) (n z : Nat) (x0 : Nat) (y0 : Nat) (y1 : Nat) (H : Heap) (locs : List Loc) (ls : Array Slot), nS ≤ n → zS ≤ z → mHp D n0 S M n s H locs → lv_has ls 2 [(0, .ref x0)] → fb_X1_init_132 V S M n z x0 y0 y1 = some (S', M', n', z') → W p l e (Rm_X1_init (n' - nS) (z' - zS)) s m args below meth c H locs (n - nS) (z - zS) (MQ below (mQ D n0 none S' M' n') args s (n' - nS) (z' - zS) (mA n0)) (F0 m 132 ls [.ref y0, .ref y1]) := by
  have hx := X.1.1
  have hb := X.1.2.1
  have hown := X.1.2.2.2.1
  have hts := X.1.2.2.2.2
  intro S M n z x0 y0 y1 H locs ls hn hz hp hl hF
  have hm0 := mn_X1_init_132 hF
  unfold fb_X1_init_132 at hF
  refine lv_dup hx hb dX1_init_132 rfl ?_
  obtain ⟨⟨S67, M66, n68, z69⟩, e64, hF⟩ := ob_s hF
  have hc := mn_J2_init e64
  have hm := (mn_X1_init_136 (V := V)) hF
  refine m_callI (As := []) (rest := [.ref y0, .ref y1]) X hp (w_J2_init hV e64) q222 q223 q138 q224 rfl 0 rfl ds_J2_init ⟨Nat.le_of_ble_eq_true rfl, Nat.le_of_ble_eq_true rfl⟩ hl.1 rfl (Nat.le_of_ble_eq_true rfl) dX1_init_133 ⟨by show _ ≤ n' - nS; omega, by show _ ≤ z' - zS; omega⟩ (fun H locs hp => ?_)
  refine W.widen (k := n68 - nS) (n := z69 - zS) (by omega) (by omega) ?_
  exact b_X1_init_136 hV hnm X _ _ _ _ _ _ _ _ _ _ (by omega) (by omega) hp (lv_sub hl [0] rfl) hF
def fb_X1_init_125 (V : Nat → Nat) (S : mSh) (M : mMm) (n z : Nat) (x0 : Nat) (y0 : Nat) (y1 : Nat) : Option (mSh × mMm × Nat × Nat) := ob (wF S M y1 2 8 (.ref y0)) fun M62 => (fb_X1_init_132 V (mS1 S n (15, 0)) (mM1 M62 n fun k => defaultValue (tyJ2 k)) (n + 1) (z + 3) x0 n x0)
theorem mn_X1_init_125 {S' : mSh} {M' : mMm} {n' z' : Nat} : ∀ {S : mSh} {M : mMm} {n z : Nat} {x0 : Nat} {y0 : Nat} {y1 : Nat}, fb_X1_init_125 V S M n z x0 y0 y1 = some (S', M', n', z') → n ≤ n' ∧ z ≤ z' := by
  intro S M n z x0 y0 y1 hF
  unfold fb_X1_init_125 at hF
  obtain ⟨M62, e63, hF⟩ := ob_s hF
  have h9 := (mn_X1_init_132 (V := V)) hF
  exact ⟨by omega, by omega⟩
theorem b_X1_init_125 {S' : mSh} {M' : mMm} {n' z' : Nat} {nS zS : Nat} (hV : mV V n0 P) (hnm : meth.name = "<init>") (X : mCx D n0 P p m c cX1_init 2 s args yX1_init.cls meth none) : ∀ (S : mSh) (M : mMm) (n z : Nat) (x0 : Nat) (y0 : Nat) (y1 : Nat) (H : Heap) (locs : List Loc) (ls : Array Slot), nS ≤ n → zS ≤ z → mHp D n0 S M n s H locs → lv_has ls 2 [(0, .ref x0)] → fb_X1_init_125 V S M n z x0 y0 y1 = some (S', M', n', z') → W p l e (Rm_X1_init (n' - nS) (z' - zS)) s m args below meth c H locs (n - nS) (z - zS) (MQ below (mQ D n0 none S' M' n') args s (n' - nS) (z' - zS) (mA n0)) (F0 m 125 ls [.ref y0, .ref y1]) := by
  have hx := X.1.1
  have hb := X.1.2.1
  have hown := X.1.2.2.2.1
  have hts := X.1.2.2.2.2
  intro S M n z x0 y0 y1 H locs ls hn hz hp hl hF
  have hm0 := mn_X1_init_125 hF
  unfold fb_X1_init_125 at hF
  obtain ⟨M62, e63, hF⟩ := ob_s hF
  refine m_putW X hp e63 kX1 (Nat.le_of_ble_eq_true rfl) q391 rfl rfl rfl dX1_init_125 (fun H locs hp => ?_)
  refine lv_aload_n hx hb dX1_init_128 rfl (lv_at hl 0 rfl) ?_
  have hm := (mn_X1_init_132 (V := V)) hF
  refine m_new X hp kJ2 q220 q221 q138 (by show _ ≤ n' - nS; omega) (by show _ ≤ z' - zS; omega) dX1_init_129 (fun H hp => ?_)
  refine W.widen (k := n + 1 - nS) (n := z + 3 - zS) (by omega) (by omega) ?_
  exact b_X1_init_132 hV hnm X _ _ _ _ _ _ _ _ _ _ (by omega) (by omega) hp (lv_sub hl [0] rfl) hF
def fb_X1_init_121 (V : Nat → Nat) (S : mSh) (M : mMm) (n z : Nat) (x0 : Nat) (y0 : Nat) (y1 : Nat) : Option (mSh × mMm × Nat × Nat) := ob (f_J2_init V S M n z y0) fun ⟨S59, M58, n60, z61⟩ => (fb_X1_init_125 V S59 M58 n60 z61 x0 y0 y1)
theorem mn_X1_init_121 {S' : mSh} {M' : mMm} {n' z' : Nat} : ∀ {S : mSh} {M : mMm} {n z : Nat} {x0 : Nat} {y0 : Nat} {y1 : Nat}, fb_X1_init_121 V S M n z x0 y0 y1 = some (S', M', n', z') → n ≤ n' ∧ z ≤ z' := by
  intro S M n z x0 y0 y1 hF
  unfold fb_X1_init_121 at hF
  obtain ⟨⟨S59, M58, n60, z61⟩, e56, hF⟩ := ob_s hF
  have hc := mn_J2_init e56
  have h9 := (mn_X1_init_125 (V := V)) hF
  exact ⟨by omega, by omega⟩
theorem b_X1_init_121 {S' : mSh} {M' : mMm} {n' z' : Nat} {nS zS : Nat} (hV : mV V n0 P) (hnm : meth.name = "<init>") (X : mCx D n0 P p m c cX1_init 2 s args yX1_init.cls meth none) : ∀ (S : mSh) (M : mMm) (n z : Nat) (x0 : Nat) (y0 : Nat) (y1 : Nat) (H : Heap) (locs : List Loc) (ls : Array Slot), nS ≤ n → zS ≤ z → mHp D n0 S M n s H locs → lv_has ls 2 [(0, .ref x0)] → fb_X1_init_121 V S M n z x0 y0 y1 = some (S', M', n', z') → W p l e (Rm_X1_init (n' - nS) (z' - zS)) s m args below meth c H locs (n - nS) (z - zS) (MQ below (mQ D n0 none S' M' n') args s (n' - nS) (z' - zS) (mA n0)) (F0 m 121 ls [.ref y0, .ref y1]) := by
  have hx := X.1.1
  have hb := X.1.2.1
  have hown := X.1.2.2.2.1
  have hts := X.1.2.2.2.2
  intro S M n z x0 y0 y1 H locs ls hn hz hp hl hF
  have hm0 := mn_X1_init_121 hF
  unfold fb_X1_init_121 at hF
  refine lv_dup hx hb dX1_init_121 rfl ?_
  obtain ⟨⟨S59, M58, n60, z61⟩, e56, hF⟩ := ob_s hF
  have hc := mn_J2_init e56
  have hm := (mn_X1_init_125 (V := V)) hF
  refine m_callI (As := []) (rest := [.ref y0, .ref y1]) X hp (w_J2_init hV e56) q222 q223 q138 q224 rfl 0 rfl ds_J2_init ⟨Nat.le_of_ble_eq_true rfl, Nat.le_of_ble_eq_true rfl⟩ hl.1 rfl (Nat.le_of_ble_eq_true rfl) dX1_init_122 ⟨by show _ ≤ n' - nS; omega, by show _ ≤ z' - zS; omega⟩ (fun H locs hp => ?_)
  refine W.widen (k := n60 - nS) (n := z61 - zS) (by omega) (by omega) ?_
  exact b_X1_init_125 hV hnm X _ _ _ _ _ _ _ _ _ _ (by omega) (by omega) hp (lv_sub hl [0] rfl) hF
def fb_X1_init_114 (V : Nat → Nat) (S : mSh) (M : mMm) (n z : Nat) (x0 : Nat) (y0 : Nat) (y1 : Nat) : Option (mSh × mMm × Nat × Nat) := ob (wF S M y1 2 7 (.ref y0)) fun M54 => (fb_X1_init_121 V (mS1 S n (15, 0)) (mM1 M54 n fun k => defaultValue (tyJ2 k)) (n + 1) (z + 3) x0 n x0)
theorem mn_X1_init_114 {S' : mSh} {M' : mMm} {n' z' : Nat} : ∀ {S : mSh} {M : mMm} {n z : Nat} {x0 : Nat} {y0 : Nat} {y1 : Nat}, fb_X1_init_114 V S M n z x0 y0 y1 = some (S', M', n', z') → n ≤ n' ∧ z ≤ z' := by
  intro S M n z x0 y0 y1 hF
  unfold fb_X1_init_114 at hF
  obtain ⟨M54, e55, hF⟩ := ob_s hF
  have h9 := (mn_X1_init_121 (V := V)) hF
  exact ⟨by omega, by omega⟩
theorem b_X1_init_114 {S' : mSh} {M' : mMm} {n' z' : Nat} {nS zS : Nat} (hV : mV V n0 P) (hnm : meth.name = "<init>") (X : mCx D n0 P p m c cX1_init 2 s args yX1_init.cls meth none) : ∀ (S : mSh) (M : mMm) (n z : Nat) (x0 : Nat) (y0 : Nat) (y1 : Nat) (H : Heap) (locs : List Loc) (ls : Array Slot), nS ≤ n → zS ≤ z → mHp D n0 S M n s H locs → lv_has ls 2 [(0, .ref x0)] → fb_X1_init_114 V S M n z x0 y0 y1 = some (S', M', n', z') → W p l e (Rm_X1_init (n' - nS) (z' - zS)) s m args below meth c H locs (n - nS) (z - zS) (MQ below (mQ D n0 none S' M' n') args s (n' - nS) (z' - zS) (mA n0)) (F0 m 114 ls [.ref y0, .ref y1]) := by
  have hx := X.1.1
  have hb := X.1.2.1
  have hown := X.1.2.2.2.1
  have hts := X.1.2.2.2.2
  intro S M n z x0 y0 y1 H locs ls hn hz hp hl hF
  have hm0 := mn_X1_init_114 hF
  unfold fb_X1_init_114 at hF
  obtain ⟨M54, e55, hF⟩ := ob_s hF
  refine m_putW X hp e55 kX1 (Nat.le_of_ble_eq_true rfl) q389 rfl rfl rfl dX1_init_114 (fun H locs hp => ?_)
  refine lv_aload_n hx hb dX1_init_117 rfl (lv_at hl 0 rfl) ?_
  have hm := (mn_X1_init_121 (V := V)) hF
  refine m_new X hp kJ2 q220 q221 q138 (by show _ ≤ n' - nS; omega) (by show _ ≤ z' - zS; omega) dX1_init_118 (fun H hp => ?_)
  refine W.widen (k := n + 1 - nS) (n := z + 3 - zS) (by omega) (by omega) ?_
  exact b_X1_init_121 hV hnm X _ _ _ _ _ _ _ _ _ _ (by omega) (by omega) hp (lv_sub hl [0] rfl) hF
def fb_X1_init_110 (V : Nat → Nat) (S : mSh) (M : mMm) (n z : Nat) (x0 : Nat) (y0 : Nat) (y1 : Nat) : Option (mSh × mMm × Nat × Nat) := ob (f_J2_init V S M n z y0) fun ⟨S51, M50, n52, z53⟩ => (fb_X1_init_114 V S51 M50 n52 z53 x0 y0 y1)
theorem mn_X1_init_110 {S' : mSh} {M' : mMm} {n' z' : Nat} : ∀ {S : mSh} {M : mMm} {n z : Nat} {x0 : Nat} {y0 : Nat} {y1 : Nat}, fb_X1_init_110 V S M n z x0 y0 y1 = some (S', M', n', z') → n ≤ n' ∧ z ≤ z' := by
  intro S M n z x0 y0 y1 hF
  unfold fb_X1_init_110 at hF
  obtain ⟨⟨S51, M50, n52, z53⟩, e48, hF⟩ := ob_s hF
  have hc := mn_J2_init e48
  have h9 := (mn_X1_init_114 (V := V)) hF
  exact ⟨by omega, by omega⟩
theorem b_X1_init_110 {S' : mSh} {M' : mMm} {n' z' : Nat} {nS zS : Nat} (hV : mV V n0 P) (hnm : meth.name = "<init>") (X : mCx D n0 P p m c cX1_init 2 s args yX1_init.cls meth none) : ∀ (S : mSh) (M : mMm) (n z : Nat) (x0 : Nat) (y0 : Nat) (y1 : Nat) (H : Heap) (locs : List Loc) (ls : Array Slot), nS ≤ n → zS ≤ z → mHp D n0 S M n s H locs → lv_has ls 2 [(0, .ref x0)] → fb_X1_init_110 V S M n z x0 y0 y1 = some (S', M', n', z') → W p l e (Rm_X1_init (n' - nS) (z' - zS)) s m args below meth c H locs (n - nS) (z - zS) (MQ below (mQ D n0 none S' M' n') args s (n' - nS) (z' - zS) (mA n0)) (F0 m 110 ls [.ref y0, .ref y1]) := by
  have hx := X.1.1
  have hb := X.1.2.1
  have hown := X.1.2.2.2.1
  have hts := X.1.2.2.2.2
  intro S M n z x0 y0 y1 H locs ls hn hz hp hl hF
  have hm0 := mn_X1_init_110 hF
  unfold fb_X1_init_110 at hF
  refine lv_dup hx hb dX1_init_110 rfl ?_
  obtain ⟨⟨S51, M50, n52, z53⟩, e48, hF⟩ := ob_s hF
  have hc := mn_J2_init e48
  have hm := (mn_X1_init_114 (V := V)) hF
  refine m_callI (As := []) (rest := [.ref y0, .ref y1]) X hp (w_J2_init hV e48) q222 q223 q138 q224 rfl 0 rfl ds_J2_init ⟨Nat.le_of_ble_eq_true rfl, Nat.le_of_ble_eq_true rfl⟩ hl.1 rfl (Nat.le_of_ble_eq_true rfl) dX1_init_111 ⟨by show _ ≤ n' - nS; omega, by show _ ≤ z' - zS; omega⟩ (fun H locs hp => ?_)
  refine W.widen (k := n52 - nS) (n := z53 - zS) (by omega) (by omega) ?_
  exact b_X1_init_114 hV hnm X _ _ _ _ _ _ _ _ _ _ (by omega) (by omega) hp (lv_sub hl [0] rfl) hF
def fb_X1_init_103 (V : Nat → Nat) (S : mSh) (M : mMm) (n z : Nat) (x0 : Nat) (y0 : Nat) (y1 : Nat) : Option (mSh × mMm × Nat × Nat) := ob (wF S M y1 2 6 (.ref y0)) fun M46 => (fb_X1_init_110 V (mS1 S n (15, 0)) (mM1 M46 n fun k => defaultValue (tyJ2 k)) (n + 1) (z + 3) x0 n x0)
theorem mn_X1_init_103 {S' : mSh} {M' : mMm} {n' z' : Nat} : ∀ {S : mSh} {M : mMm} {n z : Nat} {x0 : Nat} {y0 : Nat} {y1 : Nat}, fb_X1_init_103 V S M n z x0 y0 y1 = some (S', M', n', z') → n ≤ n' ∧ z ≤ z' := by
  intro S M n z x0 y0 y1 hF
  unfold fb_X1_init_103 at hF
  obtain ⟨M46, e47, hF⟩ := ob_s hF
  have h9 := (mn_X1_init_110 (V := V)) hF
  exact ⟨by omega, by omega⟩
theorem b_X1_init_103 {S' : mSh} {M' : mMm} {n' z' : Nat} {nS zS : Nat} (hV : mV V n0 P) (hnm : meth.name = "<init>") (X : mCx D n0 P p m c cX1_init 2 s args yX1_init.cls meth none) : ∀ (S : mSh) (M : mMm) (n z : Nat) (x0 : Nat) (y0 : Nat) (y1 : Nat) (H : Heap) (locs : List Loc) (ls : Array Slot), nS ≤ n → zS ≤ z → mHp D n0 S M n s H locs → lv_has ls 2 [(0, .ref x0)] → fb_X1_init_103 V S M n z x0 y0 y1 = some (S', M', n', z') → W p l e (Rm_X1_init (n' - nS) (z' - zS)) s m args below meth c H locs (n - nS) (z - zS) (MQ below (mQ D n0 none S' M' n') args s (n' - nS) (z' - zS) (mA n0)) (F0 m 103 ls [.ref y0, .ref y1]) := by
  have hx := X.1.1
  have hb := X.1.2.1
  have hown := X.1.2.2.2.1
  have hts := X.1.2.2.2.2
  intro S M n z x0 y0 y1 H locs ls hn hz hp hl hF
  have hm0 := mn_X1_init_103 hF
  unfold fb_X1_init_103 at hF
  obtain ⟨M46, e47, hF⟩ := ob_s hF
  refine m_putWF X hp e47 kX1 (Nat.le_of_ble_eq_true rfl) q387 rfl hnm rfl rfl rfl dX1_init_103 (fun H locs hp => ?_)
  refine lv_aload_n hx hb dX1_init_106 rfl (lv_at hl 0 rfl) ?_
  have hm := (mn_X1_init_110 (V := V)) hF
  refine m_new X hp kJ2 q220 q221 q138 (by show _ ≤ n' - nS; omega) (by show _ ≤ z' - zS; omega) dX1_init_107 (fun H hp => ?_)
  refine W.widen (k := n + 1 - nS) (n := z + 3 - zS) (by omega) (by omega) ?_
  exact b_X1_init_110 hV hnm X _ _ _ _ _ _ _ _ _ _ (by omega) (by omega) hp (lv_sub hl [0] rfl) hF
def fb_X1_init_97 (V : Nat → Nat) (S : mSh) (M : mMm) (n z : Nat) (x0 : Nat) (y0 : Nat) (y1 : Nat) : Option (mSh × mMm × Nat × Nat) := ob (f_X3_init V S M n z y0 (8 : Int32)) fun ⟨S43, M42, n44, z45⟩ => (fb_X1_init_103 V S43 M42 n44 z45 x0 y0 y1)
theorem mn_X1_init_97 {S' : mSh} {M' : mMm} {n' z' : Nat} : ∀ {S : mSh} {M : mMm} {n z : Nat} {x0 : Nat} {y0 : Nat} {y1 : Nat}, fb_X1_init_97 V S M n z x0 y0 y1 = some (S', M', n', z') → n ≤ n' ∧ z ≤ z' := by
  intro S M n z x0 y0 y1 hF
  unfold fb_X1_init_97 at hF
  obtain ⟨⟨S43, M42, n44, z45⟩, e40, hF⟩ := ob_s hF
  have hc := mn_X3_init e40
  have h9 := (mn_X1_init_103 (V := V)) hF
  exact ⟨by omega, by omega⟩
theorem b_X1_init_97 {S' : mSh} {M' : mMm} {n' z' : Nat} {nS zS : Nat} (hV : mV V n0 P) (hnm : meth.name = "<init>") (X : mCx D n0 P p m c cX1_init 2 s args yX1_init.cls meth none) : ∀ (S : mSh) (M : mMm) (n z : Nat) (x0 : Nat) (y0 : Nat) (y1 : Nat) (H : Heap) (locs : List Loc) (ls : Array Slot), nS ≤ n → zS ≤ z → mHp D n0 S M n s H locs → lv_has ls 2 [(0, .ref x0)] → fb_X1_init_97 V S M n z x0 y0 y1 = some (S', M', n', z') → W p l e (Rm_X1_init (n' - nS) (z' - zS)) s m args below meth c H locs (n - nS) (z - zS) (MQ below (mQ D n0 none S' M' n') args s (n' - nS) (z' - zS) (mA n0)) (F0 m 97 ls [.ref y0, .ref y1]) := by
  have hx := X.1.1
  have hb := X.1.2.1
  have hown := X.1.2.2.2.1
  have hts := X.1.2.2.2.2
  intro S M n z x0 y0 y1 H locs ls hn hz hp hl hF
  have hm0 := mn_X1_init_97 hF
  unfold fb_X1_init_97 at hF
  refine lv_dup hx hb dX1_init_97 rfl ?_
  refine lv_bipush (v := 8) hx hb dX1_init_98 (by decide) ?_
  obtain ⟨⟨S43, M42, n44, z45⟩, e40, hF⟩ := ob_s hF
  have hc := mn_X3_init e40
  have hm := (mn_X1_init_103 (V := V)) hF
  refine m_callI (As := [.int (8 : Int32)]) (rest := [.ref y0, .ref y1]) X hp (w_X3_init hV e40) q207 q208 q135 q209 rfl 1 rfl ds_X3_init ⟨Nat.le_of_ble_eq_true rfl, Nat.le_of_ble_eq_true rfl⟩ hl.1 rfl (Nat.le_of_ble_eq_true rfl) dX1_init_100 ⟨by show _ ≤ n' - nS; omega, by show _ ≤ z' - zS; omega⟩ (fun H locs hp => ?_)
  refine W.widen (k := n44 - nS) (n := z45 - zS) (by omega) (by omega) ?_
  exact b_X1_init_103 hV hnm X _ _ _ _ _ _ _ _ _ _ (by omega) (by omega) hp (lv_sub hl [0] rfl) hF
def fb_X1_init_90 (V : Nat → Nat) (S : mSh) (M : mMm) (n z : Nat) (x0 : Nat) (y0 : Nat) (y1 : Nat) : Option (mSh × mMm × Nat × Nat) := ob (wF S M y1 2 5 (.ref y0)) fun M38 => (fb_X1_init_97 V (mS1 S n (4, 0)) (mM1 M38 n fun k => defaultValue (tyX3 k)) (n + 1) (z + 2) x0 n x0)
theorem mn_X1_init_90 {S' : mSh} {M' : mMm} {n' z' : Nat} : ∀ {S : mSh} {M : mMm} {n z : Nat} {x0 : Nat} {y0 : Nat} {y1 : Nat}, fb_X1_init_90 V S M n z x0 y0 y1 = some (S', M', n', z') → n ≤ n' ∧ z ≤ z' := by
  intro S M n z x0 y0 y1 hF
  unfold fb_X1_init_90 at hF
  obtain ⟨M38, e39, hF⟩ := ob_s hF
  have h9 := (mn_X1_init_97 (V := V)) hF
  exact ⟨by omega, by omega⟩
theorem b_X1_init_90 {S' : mSh} {M' : mMm} {n' z' : Nat} {nS zS : Nat} (hV : mV V n0 P) (hnm : meth.name = "<init>") (X : mCx D n0 P p m c cX1_init 2 s args yX1_init.cls meth none) : ∀ (S : mSh) (M : mMm) (n z : Nat) (x0 : Nat) (y0 : Nat) (y1 : Nat) (H : Heap) (locs : List Loc) (ls : Array Slot), nS ≤ n → zS ≤ z → mHp D n0 S M n s H locs → lv_has ls 2 [(0, .ref x0)] → fb_X1_init_90 V S M n z x0 y0 y1 = some (S', M', n', z') → W p l e (Rm_X1_init (n' - nS) (z' - zS)) s m args below meth c H locs (n - nS) (z - zS) (MQ below (mQ D n0 none S' M' n') args s (n' - nS) (z' - zS) (mA n0)) (F0 m 90 ls [.ref y0, .ref y1]) := by
  have hx := X.1.1
  have hb := X.1.2.1
  have hown := X.1.2.2.2.1
  have hts := X.1.2.2.2.2
  intro S M n z x0 y0 y1 H locs ls hn hz hp hl hF
  have hm0 := mn_X1_init_90 hF
  unfold fb_X1_init_90 at hF
  obtain ⟨M38, e39, hF⟩ := ob_s hF
  refine m_putWF X hp e39 kX1 (Nat.le_of_ble_eq_true rfl) q385 rfl hnm rfl rfl rfl dX1_init_90 (fun H locs hp => ?_)
  refine lv_aload_n hx hb dX1_init_93 rfl (lv_at hl 0 rfl) ?_
  have hm := (mn_X1_init_97 (V := V)) hF
  refine m_new X hp kX3 q204 q206 q135 (by show _ ≤ n' - nS; omega) (by show _ ≤ z' - zS; omega) dX1_init_94 (fun H hp => ?_)
  refine W.widen (k := n + 1 - nS) (n := z + 2 - zS) (by omega) (by omega) ?_
  exact b_X1_init_97 hV hnm X _ _ _ _ _ _ _ _ _ _ (by omega) (by omega) hp (lv_sub hl [0] rfl) hF
def fb_X1_init_84 (V : Nat → Nat) (S : mSh) (M : mMm) (n z : Nat) (x0 : Nat) (y0 : Nat) (y1 : Nat) : Option (mSh × mMm × Nat × Nat) := ob (f_X3_init V S M n z y0 (24 : Int32)) fun ⟨S35, M34, n36, z37⟩ => (fb_X1_init_90 V S35 M34 n36 z37 x0 y0 y1)
theorem mn_X1_init_84 {S' : mSh} {M' : mMm} {n' z' : Nat} : ∀ {S : mSh} {M : mMm} {n z : Nat} {x0 : Nat} {y0 : Nat} {y1 : Nat}, fb_X1_init_84 V S M n z x0 y0 y1 = some (S', M', n', z') → n ≤ n' ∧ z ≤ z' := by
  intro S M n z x0 y0 y1 hF
  unfold fb_X1_init_84 at hF
  obtain ⟨⟨S35, M34, n36, z37⟩, e32, hF⟩ := ob_s hF
  have hc := mn_X3_init e32
  have h9 := (mn_X1_init_90 (V := V)) hF
  exact ⟨by omega, by omega⟩
theorem b_X1_init_84 {S' : mSh} {M' : mMm} {n' z' : Nat} {nS zS : Nat} (hV : mV V n0 P) (hnm : meth.name = "<init>") (X : mCx D n0 P p m c cX1_init 2 s args yX1_init.cls meth none) : ∀ (S : mSh) (M : mMm) (n z : Nat) (x0 : Nat) (y0 : Nat) (y1 : Nat) (H : Heap) (locs : List Loc) (ls : Array Slot), nS ≤ n → zS ≤ z → mHp D n0 S M n s H locs → lv_has ls 2 [(0, .ref x0)] → fb_X1_init_84 V S M n z x0 y0 y1 = some (S', M', n', z') → W p l e (Rm_X1_init (n' - nS) (z' - zS)) s m args below meth c H locs (n - nS) (z - zS) (MQ below (mQ D n0 none S' M' n') args s (n' - nS) (z' - zS) (mA n0)) (F0 m 84 ls [.ref y0, .ref y1]) := by
  have hx := X.1.1
  have hb := X.1.2.1
  have hown := X.1.2.2.2.1
  have hts := X.1.2.2.2.2
  intro S M n z x0 y0 y1 H locs ls hn hz hp hl hF
  have hm0 := mn_X1_init_84 hF
  unfold fb_X1_init_84 at hF
  refine lv_dup hx hb dX1_init_84 rfl ?_
  refine lv_bipush (v := 24) hx hb dX1_init_85 (by decide) ?_
  obtain ⟨⟨S35, M34, n36, z37⟩, e32, hF⟩ := ob_s hF
  have hc := mn_X3_init e32
  have hm := (mn_X1_init_90 (V := V)) hF
  refine m_callI (As := [.int (24 : Int32)]) (rest := [.ref y0, .ref y1]) X hp (w_X3_init hV e32) q207 q208 q135 q209 rfl 1 rfl ds_X3_init ⟨Nat.le_of_ble_eq_true rfl, Nat.le_of_ble_eq_true rfl⟩ hl.1 rfl (Nat.le_of_ble_eq_true rfl) dX1_init_87 ⟨by show _ ≤ n' - nS; omega, by show _ ≤ z' - zS; omega⟩ (fun H locs hp => ?_)
  refine W.widen (k := n36 - nS) (n := z37 - zS) (by omega) (by omega) ?_
  exact b_X1_init_90 hV hnm X _ _ _ _ _ _ _ _ _ _ (by omega) (by omega) hp (lv_sub hl [0] rfl) hF
def fb_X1_init_76 (V : Nat → Nat) (S : mSh) (M : mMm) (n z : Nat) (x0 : Nat) (y0 : Nat) (y1 : Int32) (y2 : Nat) (y3 : Nat) (y4 : Nat) : Option (mSh × mMm × Nat × Nat) := gd ((S y0).1 = 4) (ob (wA S M y2 105 y1 (.ref y0)) fun M27 => ob (wF S M27 y4 2 4 (.ref y3)) fun M30 => (fb_X1_init_84 V (mS1 S n (4, 0)) (mM1 M30 n fun k => defaultValue (tyX3 k)) (n + 1) (z + 2) x0 n x0))
theorem mn_X1_init_76 {S' : mSh} {M' : mMm} {n' z' : Nat} : ∀ {S : mSh} {M : mMm} {n z : Nat} {x0 : Nat} {y0 : Nat} {y1 : Int32} {y2 : Nat} {y3 : Nat} {y4 : Nat}, fb_X1_init_76 V S M n z x0 y0 y1 y2 y3 y4 = some (S', M', n', z') → n ≤ n' ∧ z ≤ z' := by
  intro S M n z x0 y0 y1 y2 y3 y4 hF
  unfold fb_X1_init_76 at hF
  obtain ⟨g29, hF⟩ := gd_s hF
  obtain ⟨M27, e28, hF⟩ := ob_s hF
  obtain ⟨M30, e31, hF⟩ := ob_s hF
  have h9 := (mn_X1_init_84 (V := V)) hF
  exact ⟨by omega, by omega⟩
theorem b_X1_init_76 {S' : mSh} {M' : mMm} {n' z' : Nat} {nS zS : Nat} (hV : mV V n0 P) (hnm : meth.name = "<init>") (X : mCx D n0 P p m c cX1_init 2 s args yX1_init.cls meth none) : ∀ (S : mSh) (M : mMm) (n z : Nat) (x0 : Nat) (y0 : Nat) (y1 : Int32) (y2 : Nat) (y3 : Nat) (y4 : Nat) (H : Heap) (locs : List Loc) (ls : Array Slot), nS ≤ n → zS ≤ z → mHp D n0 S M n s H locs → lv_has ls 2 [(0, .ref x0)] → fb_X1_init_76 V S M n z x0 y0 y1 y2 y3 y4 = some (S', M', n', z') → W p l e (Rm_X1_init (n' - nS) (z' - zS)) s m args below meth c H locs (n - nS) (z - zS) (MQ below (mQ D n0 none S' M' n') args s (n' - nS) (z' - zS) (mA n0)) (F0 m 76 ls [.ref y0, .int y1, .ref y2, .ref y3, .ref y4]) := by
  have hx := X.1.1
  have hb := X.1.2.1
  have hown := X.1.2.2.2.1
  have hts := X.1.2.2.2.2
  intro S M n z x0 y0 y1 y2 y3 y4 H locs ls hn hz hp hl hF
  have hm0 := mn_X1_init_76 hF
  unfold fb_X1_init_76 at hF
  obtain ⟨g29, hF⟩ := gd_s hF
  obtain ⟨M27, e28, hF⟩ := ob_s hF
  refine m_aaW 105 4 X hp e28 rfl (by decide) (r := (RX3, TX3, 2)) rfl (by decide) g29 dX1_init_76 (fun H locs hp => ?_)
  obtain ⟨M30, e31, hF⟩ := ob_s hF
  refine m_putWF X hp e31 kX1 (Nat.le_of_ble_eq_true rfl) q383 rfl hnm rfl rfl rfl dX1_init_77 (fun H locs hp => ?_)
  refine lv_aload_n hx hb dX1_init_80 rfl (lv_at hl 0 rfl) ?_
  have hm := (mn_X1_init_84 (V := V)) hF
  refine m_new X hp kX3 q204 q206 q135 (by show _ ≤ n' - nS; omega) (by show _ ≤ z' - zS; omega) dX1_init_81 (fun H hp => ?_)
  refine W.widen (k := n + 1 - nS) (n := z + 2 - zS) (by omega) (by omega) ?_
  exact b_X1_init_84 hV hnm X _ _ _ _ _ _ _ _ _ _ (by omega) (by omega) hp (lv_sub hl [0] rfl) hF
def fb_X1_init_70 (V : Nat → Nat) (S : mSh) (M : mMm) (n z : Nat) (x0 : Nat) (y0 : Nat) (y1 : Int32) (y2 : Nat) (y3 : Nat) (y4 : Nat) : Option (mSh × mMm × Nat × Nat) := ob (f_X3_init V S M n z y0 (12 : Int32)) fun ⟨S24, M23, n25, z26⟩ => (fb_X1_init_76 V S24 M23 n25 z26 x0 y0 y1 y2 y3 y4)
theorem mn_X1_init_70 {S' : mSh} {M' : mMm} {n' z' : Nat} : ∀ {S : mSh} {M : mMm} {n z : Nat} {x0 : Nat} {y0 : Nat} {y1 : Int32} {y2 : Nat} {y3 : Nat} {y4 : Nat}, fb_X1_init_70 V S M n z x0 y0 y1 y2 y3 y4 = some (S', M', n', z') → n ≤ n' ∧ z ≤ z' := by
  intro S M n z x0 y0 y1 y2 y3 y4 hF
  unfold fb_X1_init_70 at hF
  obtain ⟨⟨S24, M23, n25, z26⟩, e21, hF⟩ := ob_s hF
  have hc := mn_X3_init e21
  have h9 := (mn_X1_init_76 (V := V)) hF
  exact ⟨by omega, by omega⟩
theorem b_X1_init_70 {S' : mSh} {M' : mMm} {n' z' : Nat} {nS zS : Nat} (hV : mV V n0 P) (hnm : meth.name = "<init>") (X : mCx D n0 P p m c cX1_init 2 s args yX1_init.cls meth none) : ∀ (S : mSh) (M : mMm) (n z : Nat) (x0 : Nat) (y0 : Nat) (y1 : Int32) (y2 : Nat) (y3 : Nat) (y4 : Nat) (H : Heap) (locs : List Loc) (ls : Array Slot), nS ≤ n → zS ≤ z → mHp D n0 S M n s H locs → lv_has ls 2 [(0, .ref x0)] → fb_X1_init_70 V S M n z x0 y0 y1 y2 y3 y4 = some (S', M', n', z') → W p l e (Rm_X1_init (n' - nS) (z' - zS)) s m args below meth c H locs (n - nS) (z - zS) (MQ below (mQ D n0 none S' M' n') args s (n' - nS) (z' - zS) (mA n0)) (F0 m 70 ls [.ref y0, .int y1, .ref y2, .ref y3, .ref y4]) := by
  have hx := X.1.1
  have hb := X.1.2.1
  have hown := X.1.2.2.2.1
  have hts := X.1.2.2.2.2
  intro S M n z x0 y0 y1 y2 y3 y4 H locs ls hn hz hp hl hF
  have hm0 := mn_X1_init_70 hF
  unfold fb_X1_init_70 at hF
  refine lv_dup hx hb dX1_init_70 rfl ?_
  refine lv_bipush (v := 12) hx hb dX1_init_71 (by decide) ?_
  obtain ⟨⟨S24, M23, n25, z26⟩, e21, hF⟩ := ob_s hF
  have hc := mn_X3_init e21
  have hm := (mn_X1_init_76 (V := V)) hF
  refine m_callI (As := [.int (12 : Int32)]) (rest := [.ref y0, .int y1, .ref y2, .ref y3, .ref y4]) X hp (w_X3_init hV e21) q207 q208 q135 q209 rfl 1 rfl ds_X3_init ⟨Nat.le_of_ble_eq_true rfl, Nat.le_of_ble_eq_true rfl⟩ hl.1 rfl (Nat.le_of_ble_eq_true rfl) dX1_init_73 ⟨by show _ ≤ n' - nS; omega, by show _ ≤ z' - zS; omega⟩ (fun H locs hp => ?_)
  refine W.widen (k := n25 - nS) (n := z26 - zS) (by omega) (by omega) ?_
  exact b_X1_init_76 hV hnm X _ _ _ _ _ _ _ _ _ _ _ _ _ (by omega) (by omega) hp (lv_sub hl [0] rfl) hF
def fb_X1_init_64 (V : Nat → Nat) (S : mSh) (M : mMm) (n z : Nat) (x0 : Nat) (y0 : Nat) (y1 : Int32) (y2 : Nat) (y3 : Nat) (y4 : Nat) : Option (mSh × mMm × Nat × Nat) := gd ((S y0).1 = 4) (ob (wA S M y2 105 y1 (.ref y0)) fun M18 => (fb_X1_init_70 V (mS1 S n (4, 0)) (mM1 M18 n fun k => defaultValue (tyX3 k)) (n + 1) (z + 2) x0 n (1 : Int32) y3 y3 y4))
theorem mn_X1_init_64 {S' : mSh} {M' : mMm} {n' z' : Nat} : ∀ {S : mSh} {M : mMm} {n z : Nat} {x0 : Nat} {y0 : Nat} {y1 : Int32} {y2 : Nat} {y3 : Nat} {y4 : Nat}, fb_X1_init_64 V S M n z x0 y0 y1 y2 y3 y4 = some (S', M', n', z') → n ≤ n' ∧ z ≤ z' := by
  intro S M n z x0 y0 y1 y2 y3 y4 hF
  unfold fb_X1_init_64 at hF
  obtain ⟨g20, hF⟩ := gd_s hF
  obtain ⟨M18, e19, hF⟩ := ob_s hF
  have h9 := (mn_X1_init_70 (V := V)) hF
  exact ⟨by omega, by omega⟩
theorem b_X1_init_64 {S' : mSh} {M' : mMm} {n' z' : Nat} {nS zS : Nat} (hV : mV V n0 P) (hnm : meth.name = "<init>") (X : mCx D n0 P p m c cX1_init 2 s args yX1_init.cls meth none) : ∀ (S : mSh) (M : mMm) (n z : Nat) (x0 : Nat) (y0 : Nat) (y1 : Int32) (y2 : Nat) (y3 : Nat) (y4 : Nat) (H : Heap) (locs : List Loc) (ls : Array Slot), nS ≤ n → zS ≤ z → mHp D n0 S M n s H locs → lv_has ls 2 [(0, .ref x0)] → fb_X1_init_64 V S M n z x0 y0 y1 y2 y3 y4 = some (S', M', n', z') → W p l e (Rm_X1_init (n' - nS) (z' - zS)) s m args below meth c H locs (n - nS) (z - zS) (MQ below (mQ D n0 none S' M' n') args s (n' - nS) (z' - zS) (mA n0)) (F0 m 64 ls [.ref y0, .int y1, .ref y2, .ref y3, .ref y4]) := by
  have hx := X.1.1
  have hb := X.1.2.1
  have hown := X.1.2.2.2.1
  have hts := X.1.2.2.2.2
  intro S M n z x0 y0 y1 y2 y3 y4 H locs ls hn hz hp hl hF
  have hm0 := mn_X1_init_64 hF
  unfold fb_X1_init_64 at hF
  obtain ⟨g20, hF⟩ := gd_s hF
  obtain ⟨M18, e19, hF⟩ := ob_s hF
  refine m_aaW 105 4 X hp e19 rfl (by decide) (r := (RX3, TX3, 2)) rfl (by decide) g20 dX1_init_64 (fun H locs hp => ?_)
  refine lv_dup hx hb dX1_init_65 rfl ?_
  refine lv_iconst (v := 1) hx hb dX1_init_66 (by decide) ?_
  have hm := (mn_X1_init_70 (V := V)) hF
  refine m_new X hp kX3 q204 q206 q135 (by show _ ≤ n' - nS; omega) (by show _ ≤ z' - zS; omega) dX1_init_67 (fun H hp => ?_)
  refine W.widen (k := n + 1 - nS) (n := z + 2 - zS) (by omega) (by omega) ?_
  exact b_X1_init_70 hV hnm X _ _ _ _ _ _ _ _ _ _ _ _ _ (by omega) (by omega) hp (lv_sub hl [0] rfl) hF
def fb_X1_init_58 (V : Nat → Nat) (S : mSh) (M : mMm) (n z : Nat) (x0 : Nat) (y0 : Nat) (y1 : Int32) (y2 : Nat) (y3 : Nat) (y4 : Nat) : Option (mSh × mMm × Nat × Nat) := ob (f_X3_init V S M n z y0 (12 : Int32)) fun ⟨S15, M14, n16, z17⟩ => (fb_X1_init_64 V S15 M14 n16 z17 x0 y0 y1 y2 y3 y4)
theorem mn_X1_init_58 {S' : mSh} {M' : mMm} {n' z' : Nat} : ∀ {S : mSh} {M : mMm} {n z : Nat} {x0 : Nat} {y0 : Nat} {y1 : Int32} {y2 : Nat} {y3 : Nat} {y4 : Nat}, fb_X1_init_58 V S M n z x0 y0 y1 y2 y3 y4 = some (S', M', n', z') → n ≤ n' ∧ z ≤ z' := by
  intro S M n z x0 y0 y1 y2 y3 y4 hF
  unfold fb_X1_init_58 at hF
  obtain ⟨⟨S15, M14, n16, z17⟩, e12, hF⟩ := ob_s hF
  have hc := mn_X3_init e12
  have h9 := (mn_X1_init_64 (V := V)) hF
  exact ⟨by omega, by omega⟩
theorem b_X1_init_58 {S' : mSh} {M' : mMm} {n' z' : Nat} {nS zS : Nat} (hV : mV V n0 P) (hnm : meth.name = "<init>") (X : mCx D n0 P p m c cX1_init 2 s args yX1_init.cls meth none) : ∀ (S : mSh) (M : mMm) (n z : Nat) (x0 : Nat) (y0 : Nat) (y1 : Int32) (y2 : Nat) (y3 : Nat) (y4 : Nat) (H : Heap) (locs : List Loc) (ls : Array Slot), nS ≤ n → zS ≤ z → mHp D n0 S M n s H locs → lv_has ls 2 [(0, .ref x0)] → fb_X1_init_58 V S M n z x0 y0 y1 y2 y3 y4 = some (S', M', n', z') → W p l e (Rm_X1_init (n' - nS) (z' - zS)) s m args below meth c H locs (n - nS) (z - zS) (MQ below (mQ D n0 none S' M' n') args s (n' - nS) (z' - zS) (mA n0)) (F0 m 58 ls [.ref y0, .int y1, .ref y2, .ref y3, .ref y4]) := by
  have hx := X.1.1
  have hb := X.1.2.1
  have hown := X.1.2.2.2.1
  have hts := X.1.2.2.2.2
  intro S M n z x0 y0 y1 y2 y3 y4 H locs ls hn hz hp hl hF
  have hm0 := mn_X1_init_58 hF
  unfold fb_X1_init_58 at hF
  refine lv_dup hx hb dX1_init_58 rfl ?_
  refine lv_bipush (v := 12) hx hb dX1_init_59 (by decide) ?_
  obtain ⟨⟨S15, M14, n16, z17⟩, e12, hF⟩ := ob_s hF
  have hc := mn_X3_init e12
  have hm := (mn_X1_init_64 (V := V)) hF
  refine m_callI (As := [.int (12 : Int32)]) (rest := [.ref y0, .int y1, .ref y2, .ref y3, .ref y4]) X hp (w_X3_init hV e12) q207 q208 q135 q209 rfl 1 rfl ds_X3_init ⟨Nat.le_of_ble_eq_true rfl, Nat.le_of_ble_eq_true rfl⟩ hl.1 rfl (Nat.le_of_ble_eq_true rfl) dX1_init_61 ⟨by show _ ≤ n' - nS; omega, by show _ ≤ z' - zS; omega⟩ (fun H locs hp => ?_)
  refine W.widen (k := n16 - nS) (n := z17 - zS) (by omega) (by omega) ?_
  exact b_X1_init_64 hV hnm X _ _ _ _ _ _ _ _ _ _ _ _ _ (by omega) (by omega) hp (lv_sub hl [0] rfl) hF
def fb_X1_init_53 (V : Nat → Nat) (S : mSh) (M : mMm) (n z : Nat) (x0 : Nat) (y0 : Nat) (y1 : Nat) : Option (mSh × mMm × Nat × Nat) := (fb_X1_init_58 V (mS1 S n (4, 0)) (mM1 M n fun k => defaultValue (tyX3 k)) (n + 1) (z + 2) x0 n (0 : Int32) y0 y0 y1)
theorem mn_X1_init_53 {S' : mSh} {M' : mMm} {n' z' : Nat} : ∀ {S : mSh} {M : mMm} {n z : Nat} {x0 : Nat} {y0 : Nat} {y1 : Nat}, fb_X1_init_53 V S M n z x0 y0 y1 = some (S', M', n', z') → n ≤ n' ∧ z ≤ z' := by
  intro S M n z x0 y0 y1 hF
  unfold fb_X1_init_53 at hF
  have h9 := (mn_X1_init_58 (V := V)) hF
  exact ⟨by omega, by omega⟩
theorem b_X1_init_53 {S' : mSh} {M' : mMm} {n' z' : Nat} {nS zS : Nat} (hV : mV V n0 P) (hnm : meth.name = "<init>") (X : mCx D n0 P p m c cX1_init 2 s args yX1_init.cls meth none) : ∀ (S : mSh) (M : mMm) (n z : Nat) (x0 : Nat) (y0 : Nat) (y1 : Nat) (H : Heap) (locs : List Loc) (ls : Array Slot), nS ≤ n → zS ≤ z → mHp D n0 S M n s H locs → lv_has ls 2 [(0, .ref x0)] → fb_X1_init_53 V S M n z x0 y0 y1 = some (S', M', n', z') → W p l e (Rm_X1_init (n' - nS) (z' - zS)) s m args below meth c H locs (n - nS) (z - zS) (MQ below (mQ D n0 none S' M' n') args s (n' - nS) (z' - zS) (mA n0)) (F0 m 53 ls [.ref y0, .ref y1]) := by
  have hx := X.1.1
  have hb := X.1.2.1
  have hown := X.1.2.2.2.1
  have hts := X.1.2.2.2.2
  intro S M n z x0 y0 y1 H locs ls hn hz hp hl hF
  have hm0 := mn_X1_init_53 hF
  unfold fb_X1_init_53 at hF
  refine lv_dup hx hb dX1_init_53 rfl ?_
  refine lv_iconst (v := 0) hx hb dX1_init_54 (by decide) ?_
  have hm := (mn_X1_init_58 (V := V)) hF
  refine m_new X hp kX3 q204 q206 q135 (by show _ ≤ n' - nS; omega) (by show _ ≤ z' - zS; omega) dX1_init_55 (fun H hp => ?_)
  refine W.widen (k := n + 1 - nS) (n := z + 2 - zS) (by omega) (by omega) ?_
  exact b_X1_init_58 hV hnm X _ _ _ _ _ _ _ _ _ _ _ _ _ (by omega) (by omega) hp (lv_sub hl [0] rfl) hF
def fb_X1_init_45 (V : Nat → Nat) (S : mSh) (M : mMm) (n z : Nat) (x0 : Nat) (y0 : Nat) (y1 : Nat) : Option (mSh × mMm × Nat × Nat) := ob (wF S M y1 2 3 (.ref y0)) fun M10 => (fb_X1_init_53 V (mS1 S n (105, (2 : Int32).toNatClampNeg)) (mM1 M10 n fun _ => .null) (n + 1) (z + (2 : Int32).toNatClampNeg) x0 n x0)
theorem mn_X1_init_45 {S' : mSh} {M' : mMm} {n' z' : Nat} : ∀ {S : mSh} {M : mMm} {n z : Nat} {x0 : Nat} {y0 : Nat} {y1 : Nat}, fb_X1_init_45 V S M n z x0 y0 y1 = some (S', M', n', z') → n ≤ n' ∧ z ≤ z' := by
  intro S M n z x0 y0 y1 hF
  unfold fb_X1_init_45 at hF
  obtain ⟨M10, e11, hF⟩ := ob_s hF
  have h9 := (mn_X1_init_53 (V := V)) hF
  exact ⟨by omega, by omega⟩
theorem b_X1_init_45 {S' : mSh} {M' : mMm} {n' z' : Nat} {nS zS : Nat} (hV : mV V n0 P) (hnm : meth.name = "<init>") (X : mCx D n0 P p m c cX1_init 2 s args yX1_init.cls meth none) : ∀ (S : mSh) (M : mMm) (n z : Nat) (x0 : Nat) (y0 : Nat) (y1 : Nat) (H : Heap) (locs : List Loc) (ls : Array Slot), nS ≤ n → zS ≤ z → mHp D n0 S M n s H locs → lv_has ls 2 [(0, .ref x0)] → fb_X1_init_45 V S M n z x0 y0 y1 = some (S', M', n', z') → W p l e (Rm_X1_init (n' - nS) (z' - zS)) s m args below meth c H locs (n - nS) (z - zS) (MQ below (mQ D n0 none S' M' n') args s (n' - nS) (z' - zS) (mA n0)) (F0 m 45 ls [.ref y0, .ref y1]) := by
  have hx := X.1.1
  have hb := X.1.2.1
  have hown := X.1.2.2.2.1
  have hts := X.1.2.2.2.2
  intro S M n z x0 y0 y1 H locs ls hn hz hp hl hF
  have hm0 := mn_X1_init_45 hF
  unfold fb_X1_init_45 at hF
  obtain ⟨M10, e11, hF⟩ := ob_s hF
  refine m_putWF X hp e11 kX1 (Nat.le_of_ble_eq_true rfl) q381 rfl hnm rfl rfl rfl dX1_init_45 (fun H locs hp => ?_)
  refine lv_aload_n hx hb dX1_init_48 rfl (lv_at hl 0 rfl) ?_
  refine lv_iconst (v := 2) hx hb dX1_init_49 (by decide) ?_
  have hm := (mn_X1_init_53 (V := V)) hF
  refine m_anew X hp 105 rfl (by decide) q204 q205 (by decide) (by decide) (by show _ ≤ n' - nS; omega) (by show _ ≤ z' - zS; omega) dX1_init_50 (fun H hp => ?_)
  refine W.widen (k := n + 1 - nS) (n := z + (2 : Int32).toNatClampNeg - zS) (by omega) (by omega) ?_
  exact b_X1_init_53 hV hnm X _ _ _ _ _ _ _ _ _ _ (by omega) (by omega) hp (lv_sub hl [0] rfl) hF
def fb_X1_init_26 (V : Nat → Nat) (S : mSh) (M : mMm) (n z : Nat) (x0 : Nat) (y0 : Nat) (y1 : Nat) : Option (mSh × mMm × Nat × Nat) := ob (f_X2_init S M y0 (1 : Int32) (1 : Int32) (0 : Int32)) fun M7 => ob (wF S M7 y1 2 2 (.ref y0)) fun M8 => (fb_X1_init_45 V (mS2 S n (150 : Int32).toNatClampNeg (4 : Int32).toNatClampNeg) (mM2 M8 n (150 : Int32).toNatClampNeg) (n + 1 + (150 : Int32).toNatClampNeg) (z + (150 : Int32).toNatClampNeg + (150 : Int32).toNatClampNeg * (4 : Int32).toNatClampNeg) x0 n x0)
theorem mn_X1_init_26 {S' : mSh} {M' : mMm} {n' z' : Nat} : ∀ {S : mSh} {M : mMm} {n z : Nat} {x0 : Nat} {y0 : Nat} {y1 : Nat}, fb_X1_init_26 V S M n z x0 y0 y1 = some (S', M', n', z') → n ≤ n' ∧ z ≤ z' := by
  intro S M n z x0 y0 y1 hF
  unfold fb_X1_init_26 at hF
  obtain ⟨M7, e5, hF⟩ := ob_s hF
  obtain ⟨M8, e9, hF⟩ := ob_s hF
  have h9 := (mn_X1_init_45 (V := V)) hF
  exact ⟨by omega, by omega⟩
theorem b_X1_init_26 {S' : mSh} {M' : mMm} {n' z' : Nat} {nS zS : Nat} (hV : mV V n0 P) (hnm : meth.name = "<init>") (X : mCx D n0 P p m c cX1_init 2 s args yX1_init.cls meth none) : ∀ (S : mSh) (M : mMm) (n z : Nat) (x0 : Nat) (y0 : Nat) (y1 : Nat) (H : Heap) (locs : List Loc) (ls : Array Slot), nS ≤ n → zS ≤ z → mHp D n0 S M n s H locs → lv_has ls 2 [(0, .ref x0)] → fb_X1_init_26 V S M n z x0 y0 y1 = some (S', M', n', z') → W p l e (Rm_X1_init (n' - nS) (z' - zS)) s m args below meth c H locs (n - nS) (z - zS) (MQ below (mQ D n0 none S' M' n') args s (n' - nS) (z' - zS) (mA n0)) (F0 m 26 ls [.ref y0, .ref y1]) := by
  have hx := X.1.1
  have hb := X.1.2.1
  have hown := X.1.2.2.2.1
  have hts := X.1.2.2.2.2
  intro S M n z x0 y0 y1 H locs ls hn hz hp hl hF
  have hm0 := mn_X1_init_26 hF
  unfold fb_X1_init_26 at hF
  refine lv_dup hx hb dX1_init_26 rfl ?_
  refine lv_iconst (v := 1) hx hb dX1_init_27 (by decide) ?_
  refine lv_iconst (v := 1) hx hb dX1_init_28 (by decide) ?_
  refine lv_iconst (v := 0) hx hb dX1_init_29 (by decide) ?_
  obtain ⟨M7, e5, hF⟩ := ob_s hF
  refine m_callI (As := [.int (1 : Int32), .int (1 : Int32), .int (0 : Int32)]) (rest := [.ref y0, .ref y1]) X hp (w_X2_init e5) q180 q181 q134 q182 rfl 3 rfl ds_X2_init ⟨Nat.le_of_ble_eq_true rfl, Nat.le_of_ble_eq_true rfl⟩ hl.1 rfl (Nat.le_of_ble_eq_true rfl) dX1_init_30 ⟨by show _ + 0 ≤ n' - nS; omega, by show _ + 0 ≤ z' - zS; omega⟩ (fun H locs hp => ?_)
  obtain ⟨M8, e9, hF⟩ := ob_s hF
  refine m_putWF X hp e9 kX1 (Nat.le_of_ble_eq_true rfl) q379 rfl hnm rfl rfl rfl dX1_init_33 (fun H locs hp => ?_)
  refine lv_aload_n hx hb dX1_init_36 rfl (lv_at hl 0 rfl) ?_
  refine lv_sipush (v := 150) hx hb dX1_init_37 (by decide) ?_
  refine lv_iconst (v := 4) hx hb dX1_init_40 (by decide) ?_
  have hm := (mn_X1_init_45 (V := V)) hF
  refine m_multi2 X hp q202 q203 q201 (by decide) (by decide) (by decide) (by decide) (by show _ ≤ n' - nS; omega) (by show _ ≤ z' - zS; omega) dX1_init_41 (fun H hp => ?_)
  refine W.widen (k := (n + 1 + (150 : Int32).toNatClampNeg) - nS) (n := (z + (150 : Int32).toNatClampNeg + (150 : Int32).toNatClampNeg * (4 : Int32).toNatClampNeg) - zS) (by omega) (by omega) ?_
  exact b_X1_init_45 hV hnm X _ _ _ _ _ _ _ _ _ _ (by omega) (by omega) hp (lv_sub hl [0] rfl) hF
def fb_X1_init_19 (V : Nat → Nat) (S : mSh) (M : mMm) (n z : Nat) (x0 : Nat) (y0 : Nat) (y1 : Nat) : Option (mSh × mMm × Nat × Nat) := ob (wF S M y1 2 1 (.ref y0)) fun M3 => (fb_X1_init_26 V (mS1 S n (3, 0)) (mM1 M3 n fun k => defaultValue (tyX2 k)) (n + 1) (z + 3) x0 n x0)
theorem mn_X1_init_19 {S' : mSh} {M' : mMm} {n' z' : Nat} : ∀ {S : mSh} {M : mMm} {n z : Nat} {x0 : Nat} {y0 : Nat} {y1 : Nat}, fb_X1_init_19 V S M n z x0 y0 y1 = some (S', M', n', z') → n ≤ n' ∧ z ≤ z' := by
  intro S M n z x0 y0 y1 hF
  unfold fb_X1_init_19 at hF
  obtain ⟨M3, e4, hF⟩ := ob_s hF
  have h9 := (mn_X1_init_26 (V := V)) hF
  exact ⟨by omega, by omega⟩
theorem b_X1_init_19 {S' : mSh} {M' : mMm} {n' z' : Nat} {nS zS : Nat} (hV : mV V n0 P) (hnm : meth.name = "<init>") (X : mCx D n0 P p m c cX1_init 2 s args yX1_init.cls meth none) : ∀ (S : mSh) (M : mMm) (n z : Nat) (x0 : Nat) (y0 : Nat) (y1 : Nat) (H : Heap) (locs : List Loc) (ls : Array Slot), nS ≤ n → zS ≤ z → mHp D n0 S M n s H locs → lv_has ls 2 [(0, .ref x0)] → fb_X1_init_19 V S M n z x0 y0 y1 = some (S', M', n', z') → W p l e (Rm_X1_init (n' - nS) (z' - zS)) s m args below meth c H locs (n - nS) (z - zS) (MQ below (mQ D n0 none S' M' n') args s (n' - nS) (z' - zS) (mA n0)) (F0 m 19 ls [.ref y0, .ref y1]) := by
  have hx := X.1.1
  have hb := X.1.2.1
  have hown := X.1.2.2.2.1
  have hts := X.1.2.2.2.2
  intro S M n z x0 y0 y1 H locs ls hn hz hp hl hF
  have hm0 := mn_X1_init_19 hF
  unfold fb_X1_init_19 at hF
  obtain ⟨M3, e4, hF⟩ := ob_s hF
  refine m_putWF X hp e4 kX1 (Nat.le_of_ble_eq_true rfl) q377 rfl hnm rfl rfl rfl dX1_init_19 (fun H locs hp => ?_)
  refine lv_aload_n hx hb dX1_init_22 rfl (lv_at hl 0 rfl) ?_
  have hm := (mn_X1_init_26 (V := V)) hF
  refine m_new X hp kX2 q178 q179 q134 (by show _ ≤ n' - nS; omega) (by show _ ≤ z' - zS; omega) dX1_init_23 (fun H hp => ?_)
  refine W.widen (k := n + 1 - nS) (n := z + 3 - zS) (by omega) (by omega) ?_
  exact b_X1_init_26 hV hnm X _ _ _ _ _ _ _ _ _ _ (by omega) (by omega) hp (lv_sub hl [0] rfl) hF
def fb_X1_init_10 (V : Nat → Nat) (S : mSh) (M : mMm) (n z : Nat) (x0 : Nat) (y0 : Nat) (y1 : Nat) : Option (mSh × mMm × Nat × Nat) := ob (wF S M y1 2 0 (.ref y0)) fun M1 => (fb_X1_init_19 V (mS1 S n (104, (16 : Int32).toNatClampNeg)) (mM1 M1 n fun _ => .null) (n + 1) (z + (16 : Int32).toNatClampNeg) x0 n x0)
theorem mn_X1_init_10 {S' : mSh} {M' : mMm} {n' z' : Nat} : ∀ {S : mSh} {M : mMm} {n z : Nat} {x0 : Nat} {y0 : Nat} {y1 : Nat}, fb_X1_init_10 V S M n z x0 y0 y1 = some (S', M', n', z') → n ≤ n' ∧ z ≤ z' := by
  intro S M n z x0 y0 y1 hF
  unfold fb_X1_init_10 at hF
  obtain ⟨M1, e2, hF⟩ := ob_s hF
  have h9 := (mn_X1_init_19 (V := V)) hF
  exact ⟨by omega, by omega⟩
theorem b_X1_init_10 {S' : mSh} {M' : mMm} {n' z' : Nat} {nS zS : Nat} (hV : mV V n0 P) (hnm : meth.name = "<init>") (X : mCx D n0 P p m c cX1_init 2 s args yX1_init.cls meth none) : ∀ (S : mSh) (M : mMm) (n z : Nat) (x0 : Nat) (y0 : Nat) (y1 : Nat) (H : Heap) (locs : List Loc) (ls : Array Slot), nS ≤ n → zS ≤ z → mHp D n0 S M n s H locs → lv_has ls 2 [(0, .ref x0)] → fb_X1_init_10 V S M n z x0 y0 y1 = some (S', M', n', z') → W p l e (Rm_X1_init (n' - nS) (z' - zS)) s m args below meth c H locs (n - nS) (z - zS) (MQ below (mQ D n0 none S' M' n') args s (n' - nS) (z' - zS) (mA n0)) (F0 m 10 ls [.ref y0, .ref y1]) := by
  have hx := X.1.1
  have hb := X.1.2.1
  have hown := X.1.2.2.2.1
  have hts := X.1.2.2.2.2
  intro S M n z x0 y0 y1 H locs ls hn hz hp hl hF
  have hm0 := mn_X1_init_10 hF
  unfold fb_X1_init_10 at hF
  obtain ⟨M1, e2, hF⟩ := ob_s hF
  refine m_putWF X hp e2 kX1 (Nat.le_of_ble_eq_true rfl) q375 rfl hnm rfl rfl rfl dX1_init_10 (fun H locs hp => ?_)
  refine lv_aload_n hx hb dX1_init_13 rfl (lv_at hl 0 rfl) ?_
  refine lv_bipush (v := 16) hx hb dX1_init_14 (by decide) ?_
  have hm := (mn_X1_init_19 (V := V)) hF
  refine m_anew X hp 104 rfl (by decide) q176 q177 (by decide) (by decide) (by show _ ≤ n' - nS; omega) (by show _ ≤ z' - zS; omega) dX1_init_16 (fun H hp => ?_)
  refine W.widen (k := n + 1 - nS) (n := z + (16 : Int32).toNatClampNeg - zS) (by omega) (by omega) ?_
  exact b_X1_init_19 hV hnm X _ _ _ _ _ _ _ _ _ _ (by omega) (by omega) hp (lv_sub hl [0] rfl) hF
def fb_X1_init_0 (V : Nat → Nat) (S : mSh) (M : mMm) (n z : Nat) (x0 : Nat) : Option (mSh × mMm × Nat × Nat) := (fb_X1_init_10 V (mS1 S n (100, (144 : Int32).toNatClampNeg)) (mM1 M n fun _ => .int 0) (n + 1) (z + (144 : Int32).toNatClampNeg) x0 n x0)
theorem mn_X1_init_0 {S' : mSh} {M' : mMm} {n' z' : Nat} : ∀ {S : mSh} {M : mMm} {n z : Nat} {x0 : Nat}, fb_X1_init_0 V S M n z x0 = some (S', M', n', z') → n ≤ n' ∧ z ≤ z' := by
  intro S M n z x0 hF
  unfold fb_X1_init_0 at hF
  have h9 := (mn_X1_init_10 (V := V)) hF
  exact ⟨by omega, by omega⟩
theorem b_X1_init_0 {S' : mSh} {M' : mMm} {n' z' : Nat} {nS zS : Nat} (hV : mV V n0 P) (hnm : meth.name = "<init>") (X : mCx D n0 P p m c cX1_init 2 s args yX1_init.cls meth none) : ∀ (S : mSh) (M : mMm) (n z : Nat) (x0 : Nat) (H : Heap) (locs : List Loc) (ls : Array Slot), nS ≤ n → zS ≤ z → mHp D n0 S M n s H locs → lv_has ls 2 [(0, .ref x0)] → fb_X1_init_0 V S M n z x0 = some (S', M', n', z') → W p l e (Rm_X1_init (n' - nS) (z' - zS)) s m args below meth c H locs (n - nS) (z - zS) (MQ below (mQ D n0 none S' M' n') args s (n' - nS) (z' - zS) (mA n0)) (F0 m 0 ls []) := by
  have hx := X.1.1
  have hb := X.1.2.1
  have hown := X.1.2.2.2.1
  have hts := X.1.2.2.2.2
  intro S M n z x0 H locs ls hn hz hp hl hF
  have hm0 := mn_X1_init_0 hF
  unfold fb_X1_init_0 at hF
  refine lv_aload_n hx hb dX1_init_0 rfl (lv_at hl 0 rfl) ?_
  refine m_objInit X q175 q168 q169 hl.1 (Nat.le_of_ble_eq_true rfl) (Nat.le_of_ble_eq_true rfl) dX1_init_1 ?_
  refine lv_aload_n hx hb dX1_init_4 rfl (lv_at hl 0 rfl) ?_
  refine lv_sipush (v := 144) hx hb dX1_init_5 (by decide) ?_
  have hm := (mn_X1_init_10 (V := V)) hF
  refine m_newa X hp 100 (atype := .int) rfl (by decide) (fun h => h) q201 (by decide) (by decide) rfl (by show _ ≤ n' - nS; omega) (by show _ ≤ z' - zS; omega) dX1_init_8 (fun H hp => ?_)
  refine W.widen (k := n + 1 - nS) (n := z + (144 : Int32).toNatClampNeg - zS) (by omega) (by omega) ?_
  exact b_X1_init_10 hV hnm X _ _ _ _ _ _ _ _ _ _ (by omega) (by omega) hp (lv_sub hl [0] rfl) hF
def f_X1_init (V : Nat → Nat) (S : mSh) (M : mMm) (n z : Nat) (x0 : Nat) : Option (mSh × mMm × Nat × Nat) := (fb_X1_init_0 V S M n z x0)
theorem mn_X1_init {x0 : Nat} {S' : mSh} {M' : mMm} {n' z' : Nat} {S : mSh} {M : mMm} {n z : Nat} (hF : f_X1_init V S M n z x0 = some (S', M', n', z')) : n ≤ n' ∧ z ≤ z' := by
  unfold f_X1_init at hF
  exact mn_X1_init_0 hF
theorem w_X1_init {x0 : Nat} {S' : mSh} {M' : mMm} {n' z' : Nat} {S : mSh} {M : mMm} {n z : Nat} (hV : mV V n0 P) (hF : f_X1_init V S M n z x0 = some (S', M', n', z')) : mCt l D n0 P yX1_init cX1_init 2 none 7 191 (n' - n) (z' - z) [.ref x0] S M n none S' M' n' := by
  refine m_ofW (by decide) (Nat.le_of_ble_eq_true rfl) (fun p e s m below meth c X hnm hp ls hl => ?_)
  unfold f_X1_init at hF
  refine W.widen (k := n - n) (n := z - z) (by omega) (by omega) ?_
  exact b_X1_init_0 hV hnm X _ _ _ _ _ _ _ _ (Nat.le_refl _) (Nat.le_refl _) hp hl hF
end
section
variable {l : Launch} {D : va_G} {n0 : Nat} {P : mP} {V : Nat → Nat} {p : Program} {e : Env} {s : State} {m : MethodId} {args : Array Value} {below : List Frame} {meth : Method} {c : Code}
abbrev Rm_X0_init (mc ms : Nat) : Room := { frames := 8, cells := mc, slots := ms, locals := 212 }
def fb_X0_init_88 (V : Nat → Nat) (k70 : mSh → mMm → Nat → Nat → Nat → Int32 → Option (mSh × mMm × Nat × Nat)) (S : mSh) (M : mMm) (n z : Nat) (x0 : Nat) (x1 : Int32) (y0 : Nat) (y1 : Int32) (y2 : Nat) : Option (mSh × mMm × Nat × Nat) := gd ((S y0).1 = 2) (ob (wA S M y2 106 y1 (.ref y0)) fun M46 => nm (x1 + (1 : Int32)) fun v49 => (k70 S M46 n z x0 v49))
theorem mn_X0_init_88 {S' : mSh} {M' : mMm} {n' z' : Nat} (k70 : mSh → mMm → Nat → Nat → Nat → Int32 → Option (mSh × mMm × Nat × Nat)) (hmk70 : ∀ {S : mSh} {M : mMm} {n z : Nat} {x0 : Nat} {x1 : Int32}, k70 S M n z x0 x1 = some (S', M', n', z') → n ≤ n' ∧ z ≤ z') : ∀ {S : mSh} {M : mMm} {n z : Nat} {x0 : Nat} {x1 : Int32} {y0 : Nat} {y1 : Int32} {y2 : Nat}, fb_X0_init_88 V k70 S M n z x0 x1 y0 y1 y2 = some (S', M', n', z') → n ≤ n' ∧ z ≤ z' := by
  intro S M n z x0 x1 y0 y1 y2 hF
  unfold fb_X0_init_88 at hF
  obtain ⟨g48, hF⟩ := gd_s hF
  obtain ⟨M46, e47, hF⟩ := ob_s hF
  obtain ⟨v49, ev50⟩ : ∃ y : Int32, y = x1 + (1 : Int32) := ⟨_, rfl⟩
  have hF := nm_s hF rfl
  have h9 := hmk70 hF
  exact ⟨by omega, by omega⟩
theorem b_X0_init_88 {S' : mSh} {M' : mMm} {n' z' : Nat} {nS zS : Nat} (hV : mV V n0 P) (hnm : meth.name = "<init>") (X : mCx D n0 P p m c cX0_init 2 s args yX0_init.cls meth none) (k70 : mSh → mMm → Nat → Nat → Nat → Int32 → Option (mSh × mMm × Nat × Nat)) (hmk70 : ∀ {S : mSh} {M : mMm} {n z : Nat} {x0 : Nat} {x1 : Int32}, k70 S M n z x0 x1 = some (S', M', n', z') → n ≤ n' ∧ z ≤ z') (hk70 : ∀ (S : mSh) (M : mMm) (n z : Nat) (x0 : Nat) (x1 : Int32) (H : Heap) (locs : List Loc) (ls : Array Slot), nS ≤ n → zS ≤ z → mHp D n0 S M n s H locs → lv_has ls 2 [(0, .ref x0), (1, .int x1)] → k70 S M n z x0 x1 = some (S', M', n', z') → W p l e (Rm_X0_init (n' - nS) (z' - zS)) s m args below meth c H locs (n - nS) (z - zS) (MQ below (mQ D n0 none S' M' n') args s (n' - nS) (z' - zS) (mA n0)) (F0 m 70 ls [])) : ∀ (S : mSh) (M : mMm) (n z : Nat) (x0 : Nat) (x1 : Int32) (y0 : Nat) (y1 : Int32) (y2 : Nat) (H : Heap) (locs : List Loc) (ls : Array Slot), nS ≤ n → zS ≤ z → mHp D n0 S M n s H locs → lv_has ls 2 [(0, .ref x0), (1, .int x1)] → fb_X0_init_88 V k70 S M n z x0 x1 y0 y1 y2 = some (S', M', n', z') → W p l e (Rm_X0_init (n' - nS) (z' - zS)) s m args below meth c H locs (n - nS) (z - zS) (MQ below (mQ D n0 none S' M' n') args s (n' - nS) (z' - zS) (mA n0)) (F0 m 88 ls [.ref y0, .int y1, .ref y2]) := by
  have hx := X.1.1
  have hb := X.1.2.1
  have hown := X.1.2.2.2.1
  have hts := X.1.2.2.2.2
  intro S M n z x0 x1 y0 y1 y2 H locs ls hn hz hp hl hF
  have hm0 := mn_X0_init_88 _ hmk70 hF
  unfold fb_X0_init_88 at hF
  obtain ⟨g48, hF⟩ := gd_s hF
  obtain ⟨M46, e47, hF⟩ := ob_s hF
  refine m_aaW 106 2 X hp e47 rfl (by decide) (r := (RX1, TX1, 19)) rfl (by decide) g48 dX0_init_88 (fun H locs hp => ?_)
  obtain ⟨v49, ev50⟩ : ∃ y : Int32, y = x1 + (1 : Int32) := ⟨_, rfl⟩
  have hF := nm_s hF ev50
  refine lv_iinc (v := v49) (lv' := [(1, .int v49), (0, .ref x0)]) hx hb dX0_init_89 hl (k := 1) rfl (by rw [ev50]; rfl) (by decide) rfl (fun ls hl => ?_)
  refine lv_goto (tgt := 70) hx hb dX0_init_92 (by decide) ?_
  exact hk70 _ _ _ _ _ _ _ _ _ (by omega) (by omega) hp (lv_sub hl [1, 0] rfl) hF
def fb_X0_init_84 (V : Nat → Nat) (k70 : mSh → mMm → Nat → Nat → Nat → Int32 → Option (mSh × mMm × Nat × Nat)) (S : mSh) (M : mMm) (n z : Nat) (x0 : Nat) (x1 : Int32) (y0 : Nat) (y1 : Int32) (y2 : Nat) : Option (mSh × mMm × Nat × Nat) := ob (f_X1_init V S M n z y0) fun ⟨S43, M42, n44, z45⟩ => (fb_X0_init_88 V k70 S43 M42 n44 z45 x0 x1 y0 y1 y2)
theorem mn_X0_init_84 {S' : mSh} {M' : mMm} {n' z' : Nat} (k70 : mSh → mMm → Nat → Nat → Nat → Int32 → Option (mSh × mMm × Nat × Nat)) (hmk70 : ∀ {S : mSh} {M : mMm} {n z : Nat} {x0 : Nat} {x1 : Int32}, k70 S M n z x0 x1 = some (S', M', n', z') → n ≤ n' ∧ z ≤ z') : ∀ {S : mSh} {M : mMm} {n z : Nat} {x0 : Nat} {x1 : Int32} {y0 : Nat} {y1 : Int32} {y2 : Nat}, fb_X0_init_84 V k70 S M n z x0 x1 y0 y1 y2 = some (S', M', n', z') → n ≤ n' ∧ z ≤ z' := by
  intro S M n z x0 x1 y0 y1 y2 hF
  unfold fb_X0_init_84 at hF
  obtain ⟨⟨S43, M42, n44, z45⟩, e40, hF⟩ := ob_s hF
  have hc := mn_X1_init e40
  have h9 := (mn_X0_init_88 (V := V) k70 hmk70) hF
  exact ⟨by omega, by omega⟩
theorem b_X0_init_84 {S' : mSh} {M' : mMm} {n' z' : Nat} {nS zS : Nat} (hV : mV V n0 P) (hnm : meth.name = "<init>") (X : mCx D n0 P p m c cX0_init 2 s args yX0_init.cls meth none) (k70 : mSh → mMm → Nat → Nat → Nat → Int32 → Option (mSh × mMm × Nat × Nat)) (hmk70 : ∀ {S : mSh} {M : mMm} {n z : Nat} {x0 : Nat} {x1 : Int32}, k70 S M n z x0 x1 = some (S', M', n', z') → n ≤ n' ∧ z ≤ z') (hk70 : ∀ (S : mSh) (M : mMm) (n z : Nat) (x0 : Nat) (x1 : Int32) (H : Heap) (locs : List Loc) (ls : Array Slot), nS ≤ n → zS ≤ z → mHp D n0 S M n s H locs → lv_has ls 2 [(0, .ref x0), (1, .int x1)] → k70 S M n z x0 x1 = some (S', M', n', z') → W p l e (Rm_X0_init (n' - nS) (z' - zS)) s m args below meth c H locs (n - nS) (z - zS) (MQ below (mQ D n0 none S' M' n') args s (n' - nS) (z' - zS) (mA n0)) (F0 m 70 ls [])) : ∀ (S : mSh) (M : mMm) (n z : Nat) (x0 : Nat) (x1 : Int32) (y0 : Nat) (y1 : Int32) (y2 : Nat) (H : Heap) (locs : List Loc) (ls : Array Slot), nS ≤ n → zS ≤ z → mHp D n0 S M n s H locs → lv_has ls 2 [(0, .ref x0), (1, .int x1)] → fb_X0_init_84 V k70 S M n z x0 x1 y0 y1 y2 = some (S', M', n', z') → W p l e (Rm_X0_init (n' - nS) (z' - zS)) s m args below meth c H locs (n - nS) (z - zS) (MQ below (mQ D n0 none S' M' n') args s (n' - nS) (z' - zS) (mA n0)) (F0 m 84 ls [.ref y0, .int y1, .ref y2]) := by
  have hx := X.1.1
  have hb := X.1.2.1
  have hown := X.1.2.2.2.1
  have hts := X.1.2.2.2.2
  intro S M n z x0 x1 y0 y1 y2 H locs ls hn hz hp hl hF
  have hm0 := mn_X0_init_84 _ hmk70 hF
  unfold fb_X0_init_84 at hF
  refine lv_dup hx hb dX0_init_84 rfl ?_
  obtain ⟨⟨S43, M42, n44, z45⟩, e40, hF⟩ := ob_s hF
  have hc := mn_X1_init e40
  have hm := (mn_X0_init_88 (V := V) k70 hmk70) hF
  refine m_callI (As := []) (rest := [.ref y0, .int y1, .ref y2]) X hp (w_X1_init hV e40) q172 q173 q133 q174 rfl 0 rfl ds_X1_init ⟨Nat.le_of_ble_eq_true rfl, Nat.le_of_ble_eq_true rfl⟩ hl.1 rfl (Nat.le_of_ble_eq_true rfl) dX0_init_85 ⟨by show _ ≤ n' - nS; omega, by show _ ≤ z' - zS; omega⟩ (fun H locs hp => ?_)
  refine W.widen (k := n44 - nS) (n := z45 - zS) (by omega) (by omega) ?_
  exact b_X0_init_88 hV hnm X k70 hmk70 hk70 _ _ _ _ _ _ _ _ _ _ _ _ (by omega) (by omega) hp (lv_sub hl [0, 1] rfl) hF
def fb_X0_init_265 (V : Nat → Nat) (S : mSh) (M : mMm) (n z : Nat) (y0 : Nat) (y1 : Nat) : Option (mSh × mMm × Nat × Nat) := ob (wF S M y1 1 29 (.ref y0)) fun M89 => some (S, M89, n, z)
theorem mn_X0_init_265 {S' : mSh} {M' : mMm} {n' z' : Nat} : ∀ {S : mSh} {M : mMm} {n z : Nat} {y0 : Nat} {y1 : Nat}, fb_X0_init_265 V S M n z y0 y1 = some (S', M', n', z') → n ≤ n' ∧ z ≤ z' := by
  intro S M n z y0 y1 hF
  unfold fb_X0_init_265 at hF
  obtain ⟨M89, e90, hF⟩ := ob_s hF
  cases hF
  exact ⟨Nat.le_refl _, Nat.le_refl _⟩
theorem b_X0_init_265 {S' : mSh} {M' : mMm} {n' z' : Nat} {nS zS : Nat} (hV : mV V n0 P) (hnm : meth.name = "<init>") (X : mCx D n0 P p m c cX0_init 2 s args yX0_init.cls meth none) : ∀ (S : mSh) (M : mMm) (n z : Nat) (y0 : Nat) (y1 : Nat) (H : Heap) (locs : List Loc) (ls : Array Slot), nS ≤ n → zS ≤ z → mHp D n0 S M n s H locs → lv_has ls 2 [] → fb_X0_init_265 V S M n z y0 y1 = some (S', M', n', z') → W p l e (Rm_X0_init (n' - nS) (z' - zS)) s m args below meth c H locs (n - nS) (z - zS) (MQ below (mQ D n0 none S' M' n') args s (n' - nS) (z' - zS) (mA n0)) (F0 m 265 ls [.ref y0, .ref y1]) := by
  have hx := X.1.1
  have hb := X.1.2.1
  have hown := X.1.2.2.2.1
  have hts := X.1.2.2.2.2
  intro S M n z y0 y1 H locs ls hn hz hp hl hF
  have hm0 := mn_X0_init_265 hF
  unfold fb_X0_init_265 at hF
  obtain ⟨M89, e90, hF⟩ := ob_s hF
  refine m_putWF X hp e90 kX0 (Nat.le_of_ble_eq_true rfl) q489 rfl hnm rfl rfl rfl dX0_init_265 (fun H locs hp => ?_)
  cases hF
  exact m_vret X hp dX0_init_268
def fb_X0_init_252 (V : Nat → Nat) (S : mSh) (M : mMm) (n z : Nat) (x0 : Nat) (y0 : Nat) (y1 : Nat) : Option (mSh × mMm × Nat × Nat) := ob (f_X4_init S M y0) fun _ => ob (wF S M y1 1 28 (.ref y0)) fun M87 => (fb_X0_init_265 V (mS1 S n (100, (3721 : Int32).toNatClampNeg)) (mM1 M87 n fun _ => .int 0) (n + 1) (z + (3721 : Int32).toNatClampNeg)  n x0)
theorem mn_X0_init_252 {S' : mSh} {M' : mMm} {n' z' : Nat} : ∀ {S : mSh} {M : mMm} {n z : Nat} {x0 : Nat} {y0 : Nat} {y1 : Nat}, fb_X0_init_252 V S M n z x0 y0 y1 = some (S', M', n', z') → n ≤ n' ∧ z ≤ z' := by
  intro S M n z x0 y0 y1 hF
  unfold fb_X0_init_252 at hF
  obtain ⟨_, e85, hF⟩ := ob_s hF
  obtain ⟨M87, e88, hF⟩ := ob_s hF
  have h9 := (mn_X0_init_265 (V := V)) hF
  exact ⟨by omega, by omega⟩
theorem b_X0_init_252 {S' : mSh} {M' : mMm} {n' z' : Nat} {nS zS : Nat} (hV : mV V n0 P) (hnm : meth.name = "<init>") (X : mCx D n0 P p m c cX0_init 2 s args yX0_init.cls meth none) : ∀ (S : mSh) (M : mMm) (n z : Nat) (x0 : Nat) (y0 : Nat) (y1 : Nat) (H : Heap) (locs : List Loc) (ls : Array Slot), nS ≤ n → zS ≤ z → mHp D n0 S M n s H locs → lv_has ls 2 [(0, .ref x0)] → fb_X0_init_252 V S M n z x0 y0 y1 = some (S', M', n', z') → W p l e (Rm_X0_init (n' - nS) (z' - zS)) s m args below meth c H locs (n - nS) (z - zS) (MQ below (mQ D n0 none S' M' n') args s (n' - nS) (z' - zS) (mA n0)) (F0 m 252 ls [.ref y0, .ref y1]) := by
  have hx := X.1.1
  have hb := X.1.2.1
  have hown := X.1.2.2.2.1
  have hts := X.1.2.2.2.2
  intro S M n z x0 y0 y1 H locs ls hn hz hp hl hF
  have hm0 := mn_X0_init_252 hF
  unfold fb_X0_init_252 at hF
  refine lv_dup hx hb dX0_init_252 rfl ?_
  obtain ⟨_, e85, hF⟩ := ob_s hF
  refine m_callIN (As := []) (rest := [.ref y0, .ref y1]) X hp (w_X4_init e85) q456 q248 q139 q249 rfl 0 rfl ds_X4_init ⟨Nat.le_of_ble_eq_true rfl, Nat.le_of_ble_eq_true rfl⟩ hl.1 rfl (Nat.le_of_ble_eq_true rfl) dX0_init_253 ⟨by show _ + 0 ≤ n' - nS; omega, by show _ + 0 ≤ z' - zS; omega⟩ (fun H locs hp => ?_)
  obtain ⟨M87, e88, hF⟩ := ob_s hF
  refine m_putWF X hp e88 kX0 (Nat.le_of_ble_eq_true rfl) q488 rfl hnm rfl rfl rfl dX0_init_256 (fun H locs hp => ?_)
  refine lv_aload_n hx hb dX0_init_259 rfl (lv_at hl 0 rfl) ?_
  refine lv_sipush (v := 3721) hx hb dX0_init_260 (by decide) ?_
  have hm := (mn_X0_init_265 (V := V)) hF
  refine m_newa X hp 100 (atype := .int) rfl (by decide) (fun h => h) q201 (by decide) (by decide) rfl (by show _ ≤ n' - nS; omega) (by show _ ≤ z' - zS; omega) dX0_init_263 (fun H hp => ?_)
  refine W.widen (k := n + 1 - nS) (n := z + (3721 : Int32).toNatClampNeg - zS) (by omega) (by omega) ?_
  exact b_X0_init_265 hV hnm X _ _ _ _  _ _ _ _ _ (by omega) (by omega) hp (lv_sub hl [] rfl) hF
def fb_X0_init_241 (V : Nat → Nat) (S : mSh) (M : mMm) (n z : Nat) (x0 : Nat) (y0 : Nat) (y1 : Nat) : Option (mSh × mMm × Nat × Nat) := ob (f_X4_init S M y0) fun _ => ob (wF S M y1 1 27 (.ref y0)) fun M83 => (fb_X0_init_252 V (mS1 S n (5, 0)) (mM1 M83 n fun k => defaultValue (tyX4 k)) (n + 1) (z + 11) x0 n x0)
theorem mn_X0_init_241 {S' : mSh} {M' : mMm} {n' z' : Nat} : ∀ {S : mSh} {M : mMm} {n z : Nat} {x0 : Nat} {y0 : Nat} {y1 : Nat}, fb_X0_init_241 V S M n z x0 y0 y1 = some (S', M', n', z') → n ≤ n' ∧ z ≤ z' := by
  intro S M n z x0 y0 y1 hF
  unfold fb_X0_init_241 at hF
  obtain ⟨_, e81, hF⟩ := ob_s hF
  obtain ⟨M83, e84, hF⟩ := ob_s hF
  have h9 := (mn_X0_init_252 (V := V)) hF
  exact ⟨by omega, by omega⟩
theorem b_X0_init_241 {S' : mSh} {M' : mMm} {n' z' : Nat} {nS zS : Nat} (hV : mV V n0 P) (hnm : meth.name = "<init>") (X : mCx D n0 P p m c cX0_init 2 s args yX0_init.cls meth none) : ∀ (S : mSh) (M : mMm) (n z : Nat) (x0 : Nat) (y0 : Nat) (y1 : Nat) (H : Heap) (locs : List Loc) (ls : Array Slot), nS ≤ n → zS ≤ z → mHp D n0 S M n s H locs → lv_has ls 2 [(0, .ref x0)] → fb_X0_init_241 V S M n z x0 y0 y1 = some (S', M', n', z') → W p l e (Rm_X0_init (n' - nS) (z' - zS)) s m args below meth c H locs (n - nS) (z - zS) (MQ below (mQ D n0 none S' M' n') args s (n' - nS) (z' - zS) (mA n0)) (F0 m 241 ls [.ref y0, .ref y1]) := by
  have hx := X.1.1
  have hb := X.1.2.1
  have hown := X.1.2.2.2.1
  have hts := X.1.2.2.2.2
  intro S M n z x0 y0 y1 H locs ls hn hz hp hl hF
  have hm0 := mn_X0_init_241 hF
  unfold fb_X0_init_241 at hF
  refine lv_dup hx hb dX0_init_241 rfl ?_
  obtain ⟨_, e81, hF⟩ := ob_s hF
  refine m_callIN (As := []) (rest := [.ref y0, .ref y1]) X hp (w_X4_init e81) q456 q248 q139 q249 rfl 0 rfl ds_X4_init ⟨Nat.le_of_ble_eq_true rfl, Nat.le_of_ble_eq_true rfl⟩ hl.1 rfl (Nat.le_of_ble_eq_true rfl) dX0_init_242 ⟨by show _ + 0 ≤ n' - nS; omega, by show _ + 0 ≤ z' - zS; omega⟩ (fun H locs hp => ?_)
  obtain ⟨M83, e84, hF⟩ := ob_s hF
  refine m_putWF X hp e84 kX0 (Nat.le_of_ble_eq_true rfl) q487 rfl hnm rfl rfl rfl dX0_init_245 (fun H locs hp => ?_)
  refine lv_aload_n hx hb dX0_init_248 rfl (lv_at hl 0 rfl) ?_
  have hm := (mn_X0_init_252 (V := V)) hF
  refine m_new X hp kX4 q455 q246 q139 (by show _ ≤ n' - nS; omega) (by show _ ≤ z' - zS; omega) dX0_init_249 (fun H hp => ?_)
  refine W.widen (k := n + 1 - nS) (n := z + 11 - zS) (by omega) (by omega) ?_
  exact b_X0_init_252 hV hnm X _ _ _ _ _ _ _ _ _ _ (by omega) (by omega) hp (lv_sub hl [0] rfl) hF
def fb_X0_init_234 (V : Nat → Nat) (S : mSh) (M : mMm) (n z : Nat) (x0 : Nat) (y0 : Nat) (y1 : Nat) : Option (mSh × mMm × Nat × Nat) := ob (wF S M y1 1 26 (.ref y0)) fun M79 => (fb_X0_init_241 V (mS1 S n (5, 0)) (mM1 M79 n fun k => defaultValue (tyX4 k)) (n + 1) (z + 11) x0 n x0)
theorem mn_X0_init_234 {S' : mSh} {M' : mMm} {n' z' : Nat} : ∀ {S : mSh} {M : mMm} {n z : Nat} {x0 : Nat} {y0 : Nat} {y1 : Nat}, fb_X0_init_234 V S M n z x0 y0 y1 = some (S', M', n', z') → n ≤ n' ∧ z ≤ z' := by
  intro S M n z x0 y0 y1 hF
  unfold fb_X0_init_234 at hF
  obtain ⟨M79, e80, hF⟩ := ob_s hF
  have h9 := (mn_X0_init_241 (V := V)) hF
  exact ⟨by omega, by omega⟩
theorem b_X0_init_234 {S' : mSh} {M' : mMm} {n' z' : Nat} {nS zS : Nat} (hV : mV V n0 P) (hnm : meth.name = "<init>") (X : mCx D n0 P p m c cX0_init 2 s args yX0_init.cls meth none) : ∀ (S : mSh) (M : mMm) (n z : Nat) (x0 : Nat) (y0 : Nat) (y1 : Nat) (H : Heap) (locs : List Loc) (ls : Array Slot), nS ≤ n → zS ≤ z → mHp D n0 S M n s H locs → lv_has ls 2 [(0, .ref x0)] → fb_X0_init_234 V S M n z x0 y0 y1 = some (S', M', n', z') → W p l e (Rm_X0_init (n' - nS) (z' - zS)) s m args below meth c H locs (n - nS) (z - zS) (MQ below (mQ D n0 none S' M' n') args s (n' - nS) (z' - zS) (mA n0)) (F0 m 234 ls [.ref y0, .ref y1]) := by
  have hx := X.1.1
  have hb := X.1.2.1
  have hown := X.1.2.2.2.1
  have hts := X.1.2.2.2.2
  intro S M n z x0 y0 y1 H locs ls hn hz hp hl hF
  have hm0 := mn_X0_init_234 hF
  unfold fb_X0_init_234 at hF
  obtain ⟨M79, e80, hF⟩ := ob_s hF
  refine m_putWF X hp e80 kX0 (Nat.le_of_ble_eq_true rfl) q486 rfl hnm rfl rfl rfl dX0_init_234 (fun H locs hp => ?_)
  refine lv_aload_n hx hb dX0_init_237 rfl (lv_at hl 0 rfl) ?_
  have hm := (mn_X0_init_241 (V := V)) hF
  refine m_new X hp kX4 q455 q246 q139 (by show _ ≤ n' - nS; omega) (by show _ ≤ z' - zS; omega) dX0_init_238 (fun H hp => ?_)
  refine W.widen (k := n + 1 - nS) (n := z + 11 - zS) (by omega) (by omega) ?_
  exact b_X0_init_241 hV hnm X _ _ _ _ _ _ _ _ _ _ (by omega) (by omega) hp (lv_sub hl [0] rfl) hF
def fb_X0_init_226 (V : Nat → Nat) (S : mSh) (M : mMm) (n z : Nat) (x0 : Nat) (y0 : Nat) (y1 : Nat) : Option (mSh × mMm × Nat × Nat) := ob (wF S M y1 1 25 (.ref y0)) fun M77 => (fb_X0_init_234 V (mS1 S n (100, (31 : Int32).toNatClampNeg)) (mM1 M77 n fun _ => .int 0) (n + 1) (z + (31 : Int32).toNatClampNeg) x0 n x0)
theorem mn_X0_init_226 {S' : mSh} {M' : mMm} {n' z' : Nat} : ∀ {S : mSh} {M : mMm} {n z : Nat} {x0 : Nat} {y0 : Nat} {y1 : Nat}, fb_X0_init_226 V S M n z x0 y0 y1 = some (S', M', n', z') → n ≤ n' ∧ z ≤ z' := by
  intro S M n z x0 y0 y1 hF
  unfold fb_X0_init_226 at hF
  obtain ⟨M77, e78, hF⟩ := ob_s hF
  have h9 := (mn_X0_init_234 (V := V)) hF
  exact ⟨by omega, by omega⟩
theorem b_X0_init_226 {S' : mSh} {M' : mMm} {n' z' : Nat} {nS zS : Nat} (hV : mV V n0 P) (hnm : meth.name = "<init>") (X : mCx D n0 P p m c cX0_init 2 s args yX0_init.cls meth none) : ∀ (S : mSh) (M : mMm) (n z : Nat) (x0 : Nat) (y0 : Nat) (y1 : Nat) (H : Heap) (locs : List Loc) (ls : Array Slot), nS ≤ n → zS ≤ z → mHp D n0 S M n s H locs → lv_has ls 2 [(0, .ref x0)] → fb_X0_init_226 V S M n z x0 y0 y1 = some (S', M', n', z') → W p l e (Rm_X0_init (n' - nS) (z' - zS)) s m args below meth c H locs (n - nS) (z - zS) (MQ below (mQ D n0 none S' M' n') args s (n' - nS) (z' - zS) (mA n0)) (F0 m 226 ls [.ref y0, .ref y1]) := by
  have hx := X.1.1
  have hb := X.1.2.1
  have hown := X.1.2.2.2.1
  have hts := X.1.2.2.2.2
  intro S M n z x0 y0 y1 H locs ls hn hz hp hl hF
  have hm0 := mn_X0_init_226 hF
  unfold fb_X0_init_226 at hF
  obtain ⟨M77, e78, hF⟩ := ob_s hF
  refine m_putWF X hp e78 kX0 (Nat.le_of_ble_eq_true rfl) q485 rfl hnm rfl rfl rfl dX0_init_226 (fun H locs hp => ?_)
  refine lv_aload_n hx hb dX0_init_229 rfl (lv_at hl 0 rfl) ?_
  refine lv_bipush (v := 31) hx hb dX0_init_230 (by decide) ?_
  have hm := (mn_X0_init_234 (V := V)) hF
  refine m_newa X hp 100 (atype := .int) rfl (by decide) (fun h => h) q201 (by decide) (by decide) rfl (by show _ ≤ n' - nS; omega) (by show _ ≤ z' - zS; omega) dX0_init_232 (fun H hp => ?_)
  refine W.widen (k := n + 1 - nS) (n := z + (31 : Int32).toNatClampNeg - zS) (by omega) (by omega) ?_
  exact b_X0_init_234 hV hnm X _ _ _ _ _ _ _ _ _ _ (by omega) (by omega) hp (lv_sub hl [0] rfl) hF
def fb_X0_init_218 (V : Nat → Nat) (S : mSh) (M : mMm) (n z : Nat) (x0 : Nat) (y0 : Nat) (y1 : Nat) : Option (mSh × mMm × Nat × Nat) := ob (wF S M y1 1 24 (.ref y0)) fun M75 => (fb_X0_init_226 V (mS1 S n (100, (31 : Int32).toNatClampNeg)) (mM1 M75 n fun _ => .int 0) (n + 1) (z + (31 : Int32).toNatClampNeg) x0 n x0)
theorem mn_X0_init_218 {S' : mSh} {M' : mMm} {n' z' : Nat} : ∀ {S : mSh} {M : mMm} {n z : Nat} {x0 : Nat} {y0 : Nat} {y1 : Nat}, fb_X0_init_218 V S M n z x0 y0 y1 = some (S', M', n', z') → n ≤ n' ∧ z ≤ z' := by
  intro S M n z x0 y0 y1 hF
  unfold fb_X0_init_218 at hF
  obtain ⟨M75, e76, hF⟩ := ob_s hF
  have h9 := (mn_X0_init_226 (V := V)) hF
  exact ⟨by omega, by omega⟩
theorem b_X0_init_218 {S' : mSh} {M' : mMm} {n' z' : Nat} {nS zS : Nat} (hV : mV V n0 P) (hnm : meth.name = "<init>") (X : mCx D n0 P p m c cX0_init 2 s args yX0_init.cls meth none) : ∀ (S : mSh) (M : mMm) (n z : Nat) (x0 : Nat) (y0 : Nat) (y1 : Nat) (H : Heap) (locs : List Loc) (ls : Array Slot), nS ≤ n → zS ≤ z → mHp D n0 S M n s H locs → lv_has ls 2 [(0, .ref x0)] → fb_X0_init_218 V S M n z x0 y0 y1 = some (S', M', n', z') → W p l e (Rm_X0_init (n' - nS) (z' - zS)) s m args below meth c H locs (n - nS) (z - zS) (MQ below (mQ D n0 none S' M' n') args s (n' - nS) (z' - zS) (mA n0)) (F0 m 218 ls [.ref y0, .ref y1]) := by
  have hx := X.1.1
  have hb := X.1.2.1
  have hown := X.1.2.2.2.1
  have hts := X.1.2.2.2.2
  intro S M n z x0 y0 y1 H locs ls hn hz hp hl hF
  have hm0 := mn_X0_init_218 hF
  unfold fb_X0_init_218 at hF
  obtain ⟨M75, e76, hF⟩ := ob_s hF
  refine m_putWF X hp e76 kX0 (Nat.le_of_ble_eq_true rfl) q484 rfl hnm rfl rfl rfl dX0_init_218 (fun H locs hp => ?_)
  refine lv_aload_n hx hb dX0_init_221 rfl (lv_at hl 0 rfl) ?_
  refine lv_bipush (v := 31) hx hb dX0_init_222 (by decide) ?_
  have hm := (mn_X0_init_226 (V := V)) hF
  refine m_newa X hp 100 (atype := .int) rfl (by decide) (fun h => h) q201 (by decide) (by decide) rfl (by show _ ≤ n' - nS; omega) (by show _ ≤ z' - zS; omega) dX0_init_224 (fun H hp => ?_)
  refine W.widen (k := n + 1 - nS) (n := z + (31 : Int32).toNatClampNeg - zS) (by omega) (by omega) ?_
  exact b_X0_init_226 hV hnm X _ _ _ _ _ _ _ _ _ _ (by omega) (by omega) hp (lv_sub hl [0] rfl) hF
def fb_X0_init_209 (V : Nat → Nat) (S : mSh) (M : mMm) (n z : Nat) (x0 : Nat) (y0 : Nat) (y1 : Nat) : Option (mSh × mMm × Nat × Nat) := ob (wF S M y1 1 23 (.ref y0)) fun M73 => (fb_X0_init_218 V (mS1 S n (102, (144 : Int32).toNatClampNeg)) (mM1 M73 n fun _ => .int 0) (n + 1) (z + (144 : Int32).toNatClampNeg) x0 n x0)
theorem mn_X0_init_209 {S' : mSh} {M' : mMm} {n' z' : Nat} : ∀ {S : mSh} {M : mMm} {n z : Nat} {x0 : Nat} {y0 : Nat} {y1 : Nat}, fb_X0_init_209 V S M n z x0 y0 y1 = some (S', M', n', z') → n ≤ n' ∧ z ≤ z' := by
  intro S M n z x0 y0 y1 hF
  unfold fb_X0_init_209 at hF
  obtain ⟨M73, e74, hF⟩ := ob_s hF
  have h9 := (mn_X0_init_218 (V := V)) hF
  exact ⟨by omega, by omega⟩
theorem b_X0_init_209 {S' : mSh} {M' : mMm} {n' z' : Nat} {nS zS : Nat} (hV : mV V n0 P) (hnm : meth.name = "<init>") (X : mCx D n0 P p m c cX0_init 2 s args yX0_init.cls meth none) : ∀ (S : mSh) (M : mMm) (n z : Nat) (x0 : Nat) (y0 : Nat) (y1 : Nat) (H : Heap) (locs : List Loc) (ls : Array Slot), nS ≤ n → zS ≤ z → mHp D n0 S M n s H locs → lv_has ls 2 [(0, .ref x0)] → fb_X0_init_209 V S M n z x0 y0 y1 = some (S', M', n', z') → W p l e (Rm_X0_init (n' - nS) (z' - zS)) s m args below meth c H locs (n - nS) (z - zS) (MQ below (mQ D n0 none S' M' n') args s (n' - nS) (z' - zS) (mA n0)) (F0 m 209 ls [.ref y0, .ref y1]) := by
  have hx := X.1.1
  have hb := X.1.2.1
  have hown := X.1.2.2.2.1
  have hts := X.1.2.2.2.2
  intro S M n z x0 y0 y1 H locs ls hn hz hp hl hF
  have hm0 := mn_X0_init_209 hF
  unfold fb_X0_init_209 at hF
  obtain ⟨M73, e74, hF⟩ := ob_s hF
  refine m_putWF X hp e74 kX0 (Nat.le_of_ble_eq_true rfl) q483 rfl hnm rfl rfl rfl dX0_init_209 (fun H locs hp => ?_)
  refine lv_aload_n hx hb dX0_init_212 rfl (lv_at hl 0 rfl) ?_
  refine lv_sipush (v := 144) hx hb dX0_init_213 (by decide) ?_
  have hm := (mn_X0_init_218 (V := V)) hF
  refine m_newa X hp 102 (atype := .boolean) rfl (by decide) (fun h => h) q551 (by decide) (by decide) rfl (by show _ ≤ n' - nS; omega) (by show _ ≤ z' - zS; omega) dX0_init_216 (fun H hp => ?_)
  refine W.widen (k := n + 1 - nS) (n := z + (144 : Int32).toNatClampNeg - zS) (by omega) (by omega) ?_
  exact b_X0_init_218 hV hnm X _ _ _ _ _ _ _ _ _ _ (by omega) (by omega) hp (lv_sub hl [0] rfl) hF
def fb_X0_init_200 (V : Nat → Nat) (S : mSh) (M : mMm) (n z : Nat) (x0 : Nat) (y0 : Nat) (y1 : Nat) : Option (mSh × mMm × Nat × Nat) := ob (wF S M y1 1 22 (.ref y0)) fun M71 => (fb_X0_init_209 V (mS1 S n (102, (144 : Int32).toNatClampNeg)) (mM1 M71 n fun _ => .int 0) (n + 1) (z + (144 : Int32).toNatClampNeg) x0 n x0)
theorem mn_X0_init_200 {S' : mSh} {M' : mMm} {n' z' : Nat} : ∀ {S : mSh} {M : mMm} {n z : Nat} {x0 : Nat} {y0 : Nat} {y1 : Nat}, fb_X0_init_200 V S M n z x0 y0 y1 = some (S', M', n', z') → n ≤ n' ∧ z ≤ z' := by
  intro S M n z x0 y0 y1 hF
  unfold fb_X0_init_200 at hF
  obtain ⟨M71, e72, hF⟩ := ob_s hF
  have h9 := (mn_X0_init_209 (V := V)) hF
  exact ⟨by omega, by omega⟩
theorem b_X0_init_200 {S' : mSh} {M' : mMm} {n' z' : Nat} {nS zS : Nat} (hV : mV V n0 P) (hnm : meth.name = "<init>") (X : mCx D n0 P p m c cX0_init 2 s args yX0_init.cls meth none) : ∀ (S : mSh) (M : mMm) (n z : Nat) (x0 : Nat) (y0 : Nat) (y1 : Nat) (H : Heap) (locs : List Loc) (ls : Array Slot), nS ≤ n → zS ≤ z → mHp D n0 S M n s H locs → lv_has ls 2 [(0, .ref x0)] → fb_X0_init_200 V S M n z x0 y0 y1 = some (S', M', n', z') → W p l e (Rm_X0_init (n' - nS) (z' - zS)) s m args below meth c H locs (n - nS) (z - zS) (MQ below (mQ D n0 none S' M' n') args s (n' - nS) (z' - zS) (mA n0)) (F0 m 200 ls [.ref y0, .ref y1]) := by
  have hx := X.1.1
  have hb := X.1.2.1
  have hown := X.1.2.2.2.1
  have hts := X.1.2.2.2.2
  intro S M n z x0 y0 y1 H locs ls hn hz hp hl hF
  have hm0 := mn_X0_init_200 hF
  unfold fb_X0_init_200 at hF
  obtain ⟨M71, e72, hF⟩ := ob_s hF
  refine m_putWF X hp e72 kX0 (Nat.le_of_ble_eq_true rfl) q482 rfl hnm rfl rfl rfl dX0_init_200 (fun H locs hp => ?_)
  refine lv_aload_n hx hb dX0_init_203 rfl (lv_at hl 0 rfl) ?_
  refine lv_sipush (v := 144) hx hb dX0_init_204 (by decide) ?_
  have hm := (mn_X0_init_209 (V := V)) hF
  refine m_newa X hp 102 (atype := .boolean) rfl (by decide) (fun h => h) q551 (by decide) (by decide) rfl (by show _ ≤ n' - nS; omega) (by show _ ≤ z' - zS; omega) dX0_init_207 (fun H hp => ?_)
  refine W.widen (k := n + 1 - nS) (n := z + (144 : Int32).toNatClampNeg - zS) (by omega) (by omega) ?_
  exact b_X0_init_209 hV hnm X _ _ _ _ _ _ _ _ _ _ (by omega) (by omega) hp (lv_sub hl [0] rfl) hF
def fb_X0_init_191 (V : Nat → Nat) (S : mSh) (M : mMm) (n z : Nat) (x0 : Nat) (y0 : Nat) (y1 : Nat) : Option (mSh × mMm × Nat × Nat) := ob (wF S M y1 1 21 (.ref y0)) fun M69 => (fb_X0_init_200 V (mS1 S n (100, (144 : Int32).toNatClampNeg)) (mM1 M69 n fun _ => .int 0) (n + 1) (z + (144 : Int32).toNatClampNeg) x0 n x0)
theorem mn_X0_init_191 {S' : mSh} {M' : mMm} {n' z' : Nat} : ∀ {S : mSh} {M : mMm} {n z : Nat} {x0 : Nat} {y0 : Nat} {y1 : Nat}, fb_X0_init_191 V S M n z x0 y0 y1 = some (S', M', n', z') → n ≤ n' ∧ z ≤ z' := by
  intro S M n z x0 y0 y1 hF
  unfold fb_X0_init_191 at hF
  obtain ⟨M69, e70, hF⟩ := ob_s hF
  have h9 := (mn_X0_init_200 (V := V)) hF
  exact ⟨by omega, by omega⟩
theorem b_X0_init_191 {S' : mSh} {M' : mMm} {n' z' : Nat} {nS zS : Nat} (hV : mV V n0 P) (hnm : meth.name = "<init>") (X : mCx D n0 P p m c cX0_init 2 s args yX0_init.cls meth none) : ∀ (S : mSh) (M : mMm) (n z : Nat) (x0 : Nat) (y0 : Nat) (y1 : Nat) (H : Heap) (locs : List Loc) (ls : Array Slot), nS ≤ n → zS ≤ z → mHp D n0 S M n s H locs → lv_has ls 2 [(0, .ref x0)] → fb_X0_init_191 V S M n z x0 y0 y1 = some (S', M', n', z') → W p l e (Rm_X0_init (n' - nS) (z' - zS)) s m args below meth c H locs (n - nS) (z - zS) (MQ below (mQ D n0 none S' M' n') args s (n' - nS) (z' - zS) (mA n0)) (F0 m 191 ls [.ref y0, .ref y1]) := by
  have hx := X.1.1
  have hb := X.1.2.1
  have hown := X.1.2.2.2.1
  have hts := X.1.2.2.2.2
  intro S M n z x0 y0 y1 H locs ls hn hz hp hl hF
  have hm0 := mn_X0_init_191 hF
  unfold fb_X0_init_191 at hF
  obtain ⟨M69, e70, hF⟩ := ob_s hF
  refine m_putWF X hp e70 kX0 (Nat.le_of_ble_eq_true rfl) q481 rfl hnm rfl rfl rfl dX0_init_191 (fun H locs hp => ?_)
  refine lv_aload_n hx hb dX0_init_194 rfl (lv_at hl 0 rfl) ?_
  refine lv_sipush (v := 144) hx hb dX0_init_195 (by decide) ?_
  have hm := (mn_X0_init_200 (V := V)) hF
  refine m_newa X hp 100 (atype := .int) rfl (by decide) (fun h => h) q201 (by decide) (by decide) rfl (by show _ ≤ n' - nS; omega) (by show _ ≤ z' - zS; omega) dX0_init_198 (fun H hp => ?_)
  refine W.widen (k := n + 1 - nS) (n := z + (144 : Int32).toNatClampNeg - zS) (by omega) (by omega) ?_
  exact b_X0_init_200 hV hnm X _ _ _ _ _ _ _ _ _ _ (by omega) (by omega) hp (lv_sub hl [0] rfl) hF
def fb_X0_init_182 (V : Nat → Nat) (S : mSh) (M : mMm) (n z : Nat) (x0 : Nat) (y0 : Nat) (y1 : Nat) : Option (mSh × mMm × Nat × Nat) := ob (wF S M y1 1 20 (.ref y0)) fun M67 => (fb_X0_init_191 V (mS1 S n (100, (144 : Int32).toNatClampNeg)) (mM1 M67 n fun _ => .int 0) (n + 1) (z + (144 : Int32).toNatClampNeg) x0 n x0)
theorem mn_X0_init_182 {S' : mSh} {M' : mMm} {n' z' : Nat} : ∀ {S : mSh} {M : mMm} {n z : Nat} {x0 : Nat} {y0 : Nat} {y1 : Nat}, fb_X0_init_182 V S M n z x0 y0 y1 = some (S', M', n', z') → n ≤ n' ∧ z ≤ z' := by
  intro S M n z x0 y0 y1 hF
  unfold fb_X0_init_182 at hF
  obtain ⟨M67, e68, hF⟩ := ob_s hF
  have h9 := (mn_X0_init_191 (V := V)) hF
  exact ⟨by omega, by omega⟩
theorem b_X0_init_182 {S' : mSh} {M' : mMm} {n' z' : Nat} {nS zS : Nat} (hV : mV V n0 P) (hnm : meth.name = "<init>") (X : mCx D n0 P p m c cX0_init 2 s args yX0_init.cls meth none) : ∀ (S : mSh) (M : mMm) (n z : Nat) (x0 : Nat) (y0 : Nat) (y1 : Nat) (H : Heap) (locs : List Loc) (ls : Array Slot), nS ≤ n → zS ≤ z → mHp D n0 S M n s H locs → lv_has ls 2 [(0, .ref x0)] → fb_X0_init_182 V S M n z x0 y0 y1 = some (S', M', n', z') → W p l e (Rm_X0_init (n' - nS) (z' - zS)) s m args below meth c H locs (n - nS) (z - zS) (MQ below (mQ D n0 none S' M' n') args s (n' - nS) (z' - zS) (mA n0)) (F0 m 182 ls [.ref y0, .ref y1]) := by
  have hx := X.1.1
  have hb := X.1.2.1
  have hown := X.1.2.2.2.1
  have hts := X.1.2.2.2.2
  intro S M n z x0 y0 y1 H locs ls hn hz hp hl hF
  have hm0 := mn_X0_init_182 hF
  unfold fb_X0_init_182 at hF
  obtain ⟨M67, e68, hF⟩ := ob_s hF
  refine m_putWF X hp e68 kX0 (Nat.le_of_ble_eq_true rfl) q480 rfl hnm rfl rfl rfl dX0_init_182 (fun H locs hp => ?_)
  refine lv_aload_n hx hb dX0_init_185 rfl (lv_at hl 0 rfl) ?_
  refine lv_sipush (v := 144) hx hb dX0_init_186 (by decide) ?_
  have hm := (mn_X0_init_191 (V := V)) hF
  refine m_newa X hp 100 (atype := .int) rfl (by decide) (fun h => h) q201 (by decide) (by decide) rfl (by show _ ≤ n' - nS; omega) (by show _ ≤ z' - zS; omega) dX0_init_189 (fun H hp => ?_)
  refine W.widen (k := n + 1 - nS) (n := z + (144 : Int32).toNatClampNeg - zS) (by omega) (by omega) ?_
  exact b_X0_init_191 hV hnm X _ _ _ _ _ _ _ _ _ _ (by omega) (by omega) hp (lv_sub hl [0] rfl) hF
def fb_X0_init_174 (V : Nat → Nat) (S : mSh) (M : mMm) (n z : Nat) (x0 : Nat) (y0 : Nat) (y1 : Nat) : Option (mSh × mMm × Nat × Nat) := ob (wF S M y1 1 19 (.ref y0)) fun M65 => (fb_X0_init_182 V (mS1 S n (103, (41 : Int32).toNatClampNeg)) (mM1 M65 n fun _ => .long 0) (n + 1) (z + (41 : Int32).toNatClampNeg) x0 n x0)
theorem mn_X0_init_174 {S' : mSh} {M' : mMm} {n' z' : Nat} : ∀ {S : mSh} {M : mMm} {n z : Nat} {x0 : Nat} {y0 : Nat} {y1 : Nat}, fb_X0_init_174 V S M n z x0 y0 y1 = some (S', M', n', z') → n ≤ n' ∧ z ≤ z' := by
  intro S M n z x0 y0 y1 hF
  unfold fb_X0_init_174 at hF
  obtain ⟨M65, e66, hF⟩ := ob_s hF
  have h9 := (mn_X0_init_182 (V := V)) hF
  exact ⟨by omega, by omega⟩
theorem b_X0_init_174 {S' : mSh} {M' : mMm} {n' z' : Nat} {nS zS : Nat} (hV : mV V n0 P) (hnm : meth.name = "<init>") (X : mCx D n0 P p m c cX0_init 2 s args yX0_init.cls meth none) : ∀ (S : mSh) (M : mMm) (n z : Nat) (x0 : Nat) (y0 : Nat) (y1 : Nat) (H : Heap) (locs : List Loc) (ls : Array Slot), nS ≤ n → zS ≤ z → mHp D n0 S M n s H locs → lv_has ls 2 [(0, .ref x0)] → fb_X0_init_174 V S M n z x0 y0 y1 = some (S', M', n', z') → W p l e (Rm_X0_init (n' - nS) (z' - zS)) s m args below meth c H locs (n - nS) (z - zS) (MQ below (mQ D n0 none S' M' n') args s (n' - nS) (z' - zS) (mA n0)) (F0 m 174 ls [.ref y0, .ref y1]) := by
  have hx := X.1.1
  have hb := X.1.2.1
  have hown := X.1.2.2.2.1
  have hts := X.1.2.2.2.2
  intro S M n z x0 y0 y1 H locs ls hn hz hp hl hF
  have hm0 := mn_X0_init_174 hF
  unfold fb_X0_init_174 at hF
  obtain ⟨M65, e66, hF⟩ := ob_s hF
  refine m_putWF X hp e66 kX0 (Nat.le_of_ble_eq_true rfl) q479 rfl hnm rfl rfl rfl dX0_init_174 (fun H locs hp => ?_)
  refine lv_aload_n hx hb dX0_init_177 rfl (lv_at hl 0 rfl) ?_
  refine lv_bipush (v := 41) hx hb dX0_init_178 (by decide) ?_
  have hm := (mn_X0_init_182 (V := V)) hF
  refine m_newa X hp 103 (atype := .long) rfl (by decide) (fun h => h) q552 (by decide) (by decide) rfl (by show _ ≤ n' - nS; omega) (by show _ ≤ z' - zS; omega) dX0_init_180 (fun H hp => ?_)
  refine W.widen (k := n + 1 - nS) (n := z + (41 : Int32).toNatClampNeg - zS) (by omega) (by omega) ?_
  exact b_X0_init_182 hV hnm X _ _ _ _ _ _ _ _ _ _ (by omega) (by omega) hp (lv_sub hl [0] rfl) hF
def fb_X0_init_165 (V : Nat → Nat) (S : mSh) (M : mMm) (n z : Nat) (x0 : Nat) (y0 : Nat) (y1 : Nat) : Option (mSh × mMm × Nat × Nat) := ob (wF S M y1 1 17 (.ref y0)) fun M63 => (fb_X0_init_174 V (mS1 S n (102, (14641 : Int32).toNatClampNeg)) (mM1 M63 n fun _ => .int 0) (n + 1) (z + (14641 : Int32).toNatClampNeg) x0 n x0)
theorem mn_X0_init_165 {S' : mSh} {M' : mMm} {n' z' : Nat} : ∀ {S : mSh} {M : mMm} {n z : Nat} {x0 : Nat} {y0 : Nat} {y1 : Nat}, fb_X0_init_165 V S M n z x0 y0 y1 = some (S', M', n', z') → n ≤ n' ∧ z ≤ z' := by
  intro S M n z x0 y0 y1 hF
  unfold fb_X0_init_165 at hF
  obtain ⟨M63, e64, hF⟩ := ob_s hF
  have h9 := (mn_X0_init_174 (V := V)) hF
  exact ⟨by omega, by omega⟩
theorem b_X0_init_165 {S' : mSh} {M' : mMm} {n' z' : Nat} {nS zS : Nat} (hV : mV V n0 P) (hnm : meth.name = "<init>") (X : mCx D n0 P p m c cX0_init 2 s args yX0_init.cls meth none) : ∀ (S : mSh) (M : mMm) (n z : Nat) (x0 : Nat) (y0 : Nat) (y1 : Nat) (H : Heap) (locs : List Loc) (ls : Array Slot), nS ≤ n → zS ≤ z → mHp D n0 S M n s H locs → lv_has ls 2 [(0, .ref x0)] → fb_X0_init_165 V S M n z x0 y0 y1 = some (S', M', n', z') → W p l e (Rm_X0_init (n' - nS) (z' - zS)) s m args below meth c H locs (n - nS) (z - zS) (MQ below (mQ D n0 none S' M' n') args s (n' - nS) (z' - zS) (mA n0)) (F0 m 165 ls [.ref y0, .ref y1]) := by
  have hx := X.1.1
  have hb := X.1.2.1
  have hown := X.1.2.2.2.1
  have hts := X.1.2.2.2.2
  intro S M n z x0 y0 y1 H locs ls hn hz hp hl hF
  have hm0 := mn_X0_init_165 hF
  unfold fb_X0_init_165 at hF
  obtain ⟨M63, e64, hF⟩ := ob_s hF
  refine m_putWF X hp e64 kX0 (Nat.le_of_ble_eq_true rfl) q477 rfl hnm rfl rfl rfl dX0_init_165 (fun H locs hp => ?_)
  refine lv_aload_n hx hb dX0_init_168 rfl (lv_at hl 0 rfl) ?_
  refine lv_sipush (v := 14641) hx hb dX0_init_169 (by decide) ?_
  have hm := (mn_X0_init_174 (V := V)) hF
  refine m_newa X hp 102 (atype := .boolean) rfl (by decide) (fun h => h) q551 (by decide) (by decide) rfl (by show _ ≤ n' - nS; omega) (by show _ ≤ z' - zS; omega) dX0_init_172 (fun H hp => ?_)
  refine W.widen (k := n + 1 - nS) (n := z + (14641 : Int32).toNatClampNeg - zS) (by omega) (by omega) ?_
  exact b_X0_init_174 hV hnm X _ _ _ _ _ _ _ _ _ _ (by omega) (by omega) hp (lv_sub hl [0] rfl) hF
def fb_X0_init_156 (V : Nat → Nat) (S : mSh) (M : mMm) (n z : Nat) (x0 : Nat) (y0 : Nat) (y1 : Nat) : Option (mSh × mMm × Nat × Nat) := ob (wF S M y1 1 16 (.ref y0)) fun M61 => (fb_X0_init_165 V (mS1 S n (100, (14641 : Int32).toNatClampNeg)) (mM1 M61 n fun _ => .int 0) (n + 1) (z + (14641 : Int32).toNatClampNeg) x0 n x0)
theorem mn_X0_init_156 {S' : mSh} {M' : mMm} {n' z' : Nat} : ∀ {S : mSh} {M : mMm} {n z : Nat} {x0 : Nat} {y0 : Nat} {y1 : Nat}, fb_X0_init_156 V S M n z x0 y0 y1 = some (S', M', n', z') → n ≤ n' ∧ z ≤ z' := by
  intro S M n z x0 y0 y1 hF
  unfold fb_X0_init_156 at hF
  obtain ⟨M61, e62, hF⟩ := ob_s hF
  have h9 := (mn_X0_init_165 (V := V)) hF
  exact ⟨by omega, by omega⟩
theorem b_X0_init_156 {S' : mSh} {M' : mMm} {n' z' : Nat} {nS zS : Nat} (hV : mV V n0 P) (hnm : meth.name = "<init>") (X : mCx D n0 P p m c cX0_init 2 s args yX0_init.cls meth none) : ∀ (S : mSh) (M : mMm) (n z : Nat) (x0 : Nat) (y0 : Nat) (y1 : Nat) (H : Heap) (locs : List Loc) (ls : Array Slot), nS ≤ n → zS ≤ z → mHp D n0 S M n s H locs → lv_has ls 2 [(0, .ref x0)] → fb_X0_init_156 V S M n z x0 y0 y1 = some (S', M', n', z') → W p l e (Rm_X0_init (n' - nS) (z' - zS)) s m args below meth c H locs (n - nS) (z - zS) (MQ below (mQ D n0 none S' M' n') args s (n' - nS) (z' - zS) (mA n0)) (F0 m 156 ls [.ref y0, .ref y1]) := by
  have hx := X.1.1
  have hb := X.1.2.1
  have hown := X.1.2.2.2.1
  have hts := X.1.2.2.2.2
  intro S M n z x0 y0 y1 H locs ls hn hz hp hl hF
  have hm0 := mn_X0_init_156 hF
  unfold fb_X0_init_156 at hF
  obtain ⟨M61, e62, hF⟩ := ob_s hF
  refine m_putWF X hp e62 kX0 (Nat.le_of_ble_eq_true rfl) q476 rfl hnm rfl rfl rfl dX0_init_156 (fun H locs hp => ?_)
  refine lv_aload_n hx hb dX0_init_159 rfl (lv_at hl 0 rfl) ?_
  refine lv_sipush (v := 14641) hx hb dX0_init_160 (by decide) ?_
  have hm := (mn_X0_init_165 (V := V)) hF
  refine m_newa X hp 100 (atype := .int) rfl (by decide) (fun h => h) q201 (by decide) (by decide) rfl (by show _ ≤ n' - nS; omega) (by show _ ≤ z' - zS; omega) dX0_init_163 (fun H hp => ?_)
  refine W.widen (k := n + 1 - nS) (n := z + (14641 : Int32).toNatClampNeg - zS) (by omega) (by omega) ?_
  exact b_X0_init_165 hV hnm X _ _ _ _ _ _ _ _ _ _ (by omega) (by omega) hp (lv_sub hl [0] rfl) hF
def fb_X0_init_147 (V : Nat → Nat) (S : mSh) (M : mMm) (n z : Nat) (x0 : Nat) (y0 : Nat) (y1 : Nat) : Option (mSh × mMm × Nat × Nat) := ob (wF S M y1 1 15 (.ref y0)) fun M59 => (fb_X0_init_156 V (mS1 S n (100, (14641 : Int32).toNatClampNeg)) (mM1 M59 n fun _ => .int 0) (n + 1) (z + (14641 : Int32).toNatClampNeg) x0 n x0)
theorem mn_X0_init_147 {S' : mSh} {M' : mMm} {n' z' : Nat} : ∀ {S : mSh} {M : mMm} {n z : Nat} {x0 : Nat} {y0 : Nat} {y1 : Nat}, fb_X0_init_147 V S M n z x0 y0 y1 = some (S', M', n', z') → n ≤ n' ∧ z ≤ z' := by
  intro S M n z x0 y0 y1 hF
  unfold fb_X0_init_147 at hF
  obtain ⟨M59, e60, hF⟩ := ob_s hF
  have h9 := (mn_X0_init_156 (V := V)) hF
  exact ⟨by omega, by omega⟩
theorem b_X0_init_147 {S' : mSh} {M' : mMm} {n' z' : Nat} {nS zS : Nat} (hV : mV V n0 P) (hnm : meth.name = "<init>") (X : mCx D n0 P p m c cX0_init 2 s args yX0_init.cls meth none) : ∀ (S : mSh) (M : mMm) (n z : Nat) (x0 : Nat) (y0 : Nat) (y1 : Nat) (H : Heap) (locs : List Loc) (ls : Array Slot), nS ≤ n → zS ≤ z → mHp D n0 S M n s H locs → lv_has ls 2 [(0, .ref x0)] → fb_X0_init_147 V S M n z x0 y0 y1 = some (S', M', n', z') → W p l e (Rm_X0_init (n' - nS) (z' - zS)) s m args below meth c H locs (n - nS) (z - zS) (MQ below (mQ D n0 none S' M' n') args s (n' - nS) (z' - zS) (mA n0)) (F0 m 147 ls [.ref y0, .ref y1]) := by
  have hx := X.1.1
  have hb := X.1.2.1
  have hown := X.1.2.2.2.1
  have hts := X.1.2.2.2.2
  intro S M n z x0 y0 y1 H locs ls hn hz hp hl hF
  have hm0 := mn_X0_init_147 hF
  unfold fb_X0_init_147 at hF
  obtain ⟨M59, e60, hF⟩ := ob_s hF
  refine m_putWF X hp e60 kX0 (Nat.le_of_ble_eq_true rfl) q475 rfl hnm rfl rfl rfl dX0_init_147 (fun H locs hp => ?_)
  refine lv_aload_n hx hb dX0_init_150 rfl (lv_at hl 0 rfl) ?_
  refine lv_sipush (v := 14641) hx hb dX0_init_151 (by decide) ?_
  have hm := (mn_X0_init_156 (V := V)) hF
  refine m_newa X hp 100 (atype := .int) rfl (by decide) (fun h => h) q201 (by decide) (by decide) rfl (by show _ ≤ n' - nS; omega) (by show _ ≤ z' - zS; omega) dX0_init_154 (fun H hp => ?_)
  refine W.widen (k := n + 1 - nS) (n := z + (14641 : Int32).toNatClampNeg - zS) (by omega) (by omega) ?_
  exact b_X0_init_156 hV hnm X _ _ _ _ _ _ _ _ _ _ (by omega) (by omega) hp (lv_sub hl [0] rfl) hF
def fb_X0_init_138 (V : Nat → Nat) (S : mSh) (M : mMm) (n z : Nat) (x0 : Nat) (y0 : Nat) (y1 : Nat) : Option (mSh × mMm × Nat × Nat) := ob (wF S M y1 1 14 (.ref y0)) fun M57 => (fb_X0_init_147 V (mS1 S n (100, (2401 : Int32).toNatClampNeg)) (mM1 M57 n fun _ => .int 0) (n + 1) (z + (2401 : Int32).toNatClampNeg) x0 n x0)
theorem mn_X0_init_138 {S' : mSh} {M' : mMm} {n' z' : Nat} : ∀ {S : mSh} {M : mMm} {n z : Nat} {x0 : Nat} {y0 : Nat} {y1 : Nat}, fb_X0_init_138 V S M n z x0 y0 y1 = some (S', M', n', z') → n ≤ n' ∧ z ≤ z' := by
  intro S M n z x0 y0 y1 hF
  unfold fb_X0_init_138 at hF
  obtain ⟨M57, e58, hF⟩ := ob_s hF
  have h9 := (mn_X0_init_147 (V := V)) hF
  exact ⟨by omega, by omega⟩
theorem b_X0_init_138 {S' : mSh} {M' : mMm} {n' z' : Nat} {nS zS : Nat} (hV : mV V n0 P) (hnm : meth.name = "<init>") (X : mCx D n0 P p m c cX0_init 2 s args yX0_init.cls meth none) : ∀ (S : mSh) (M : mMm) (n z : Nat) (x0 : Nat) (y0 : Nat) (y1 : Nat) (H : Heap) (locs : List Loc) (ls : Array Slot), nS ≤ n → zS ≤ z → mHp D n0 S M n s H locs → lv_has ls 2 [(0, .ref x0)] → fb_X0_init_138 V S M n z x0 y0 y1 = some (S', M', n', z') → W p l e (Rm_X0_init (n' - nS) (z' - zS)) s m args below meth c H locs (n - nS) (z - zS) (MQ below (mQ D n0 none S' M' n') args s (n' - nS) (z' - zS) (mA n0)) (F0 m 138 ls [.ref y0, .ref y1]) := by
  have hx := X.1.1
  have hb := X.1.2.1
  have hown := X.1.2.2.2.1
  have hts := X.1.2.2.2.2
  intro S M n z x0 y0 y1 H locs ls hn hz hp hl hF
  have hm0 := mn_X0_init_138 hF
  unfold fb_X0_init_138 at hF
  obtain ⟨M57, e58, hF⟩ := ob_s hF
  refine m_putW X hp e58 kX0 (Nat.le_of_ble_eq_true rfl) q474 rfl rfl rfl dX0_init_138 (fun H locs hp => ?_)
  refine lv_aload_n hx hb dX0_init_141 rfl (lv_at hl 0 rfl) ?_
  refine lv_sipush (v := 2401) hx hb dX0_init_142 (by decide) ?_
  have hm := (mn_X0_init_147 (V := V)) hF
  refine m_newa X hp 100 (atype := .int) rfl (by decide) (fun h => h) q201 (by decide) (by decide) rfl (by show _ ≤ n' - nS; omega) (by show _ ≤ z' - zS; omega) dX0_init_145 (fun H hp => ?_)
  refine W.widen (k := n + 1 - nS) (n := z + (2401 : Int32).toNatClampNeg - zS) (by omega) (by omega) ?_
  exact b_X0_init_147 hV hnm X _ _ _ _ _ _ _ _ _ _ (by omega) (by omega) hp (lv_sub hl [0] rfl) hF
def fb_X0_init_124 (V : Nat → Nat) (S : mSh) (M : mMm) (n z : Nat) (x0 : Nat) (y0 : Nat) (y1 : Nat) : Option (mSh × mMm × Nat × Nat) := ob (wF S M y1 1 13 (.ref y0)) fun M55 => (fb_X0_init_138 V (mS3 S n 3 7 576) (mM3 M55 n 3 7) (n + 25) (z + 12120) x0 n x0)
theorem mn_X0_init_124 {S' : mSh} {M' : mMm} {n' z' : Nat} : ∀ {S : mSh} {M : mMm} {n z : Nat} {x0 : Nat} {y0 : Nat} {y1 : Nat}, fb_X0_init_124 V S M n z x0 y0 y1 = some (S', M', n', z') → n ≤ n' ∧ z ≤ z' := by
  intro S M n z x0 y0 y1 hF
  unfold fb_X0_init_124 at hF
  obtain ⟨M55, e56, hF⟩ := ob_s hF
  have h9 := (mn_X0_init_138 (V := V)) hF
  exact ⟨by omega, by omega⟩
theorem b_X0_init_124 {S' : mSh} {M' : mMm} {n' z' : Nat} {nS zS : Nat} (hV : mV V n0 P) (hnm : meth.name = "<init>") (X : mCx D n0 P p m c cX0_init 2 s args yX0_init.cls meth none) : ∀ (S : mSh) (M : mMm) (n z : Nat) (x0 : Nat) (y0 : Nat) (y1 : Nat) (H : Heap) (locs : List Loc) (ls : Array Slot), nS ≤ n → zS ≤ z → mHp D n0 S M n s H locs → lv_has ls 2 [(0, .ref x0)] → fb_X0_init_124 V S M n z x0 y0 y1 = some (S', M', n', z') → W p l e (Rm_X0_init (n' - nS) (z' - zS)) s m args below meth c H locs (n - nS) (z - zS) (MQ below (mQ D n0 none S' M' n') args s (n' - nS) (z' - zS) (mA n0)) (F0 m 124 ls [.ref y0, .ref y1]) := by
  have hx := X.1.1
  have hb := X.1.2.1
  have hown := X.1.2.2.2.1
  have hts := X.1.2.2.2.2
  intro S M n z x0 y0 y1 H locs ls hn hz hp hl hF
  have hm0 := mn_X0_init_124 hF
  unfold fb_X0_init_124 at hF
  obtain ⟨M55, e56, hF⟩ := ob_s hF
  refine m_putW X hp e56 kX0 (Nat.le_of_ble_eq_true rfl) q473 rfl rfl rfl dX0_init_124 (fun H locs hp => ?_)
  refine lv_aload_n hx hb dX0_init_127 rfl (lv_at hl 0 rfl) ?_
  refine lv_iconst (v := 3) hx hb dX0_init_128 (by decide) ?_
  refine lv_bipush (v := 7) hx hb dX0_init_129 (by decide) ?_
  refine lv_sipush (v := 576) hx hb dX0_init_131 (by decide) ?_
  have hm := (mn_X0_init_138 (V := V)) hF
  refine m_multi3 X hp q453 q454 q203 q201 (by show _ ≤ n' - nS; omega) (by show _ ≤ z' - zS; omega) dX0_init_134 (fun H hp => ?_)
  refine W.widen (k := n + 25 - nS) (n := z + 12120 - zS) (by omega) (by omega) ?_
  exact b_X0_init_138 hV hnm X _ _ _ _ _ _ _ _ _ _ (by omega) (by omega) hp (lv_sub hl [0] rfl) hF
def fb_X0_init_110 (V : Nat → Nat) (S : mSh) (M : mMm) (n z : Nat) (x0 : Nat) (y0 : Nat) (y1 : Nat) : Option (mSh × mMm × Nat × Nat) := ob (wF S M y1 1 11 (.ref y0)) fun M53 => (fb_X0_init_124 V (mS3 S n 3 7 576) (mM3 M53 n 3 7) (n + 25) (z + 12120) x0 n x0)
theorem mn_X0_init_110 {S' : mSh} {M' : mMm} {n' z' : Nat} : ∀ {S : mSh} {M : mMm} {n z : Nat} {x0 : Nat} {y0 : Nat} {y1 : Nat}, fb_X0_init_110 V S M n z x0 y0 y1 = some (S', M', n', z') → n ≤ n' ∧ z ≤ z' := by
  intro S M n z x0 y0 y1 hF
  unfold fb_X0_init_110 at hF
  obtain ⟨M53, e54, hF⟩ := ob_s hF
  have h9 := (mn_X0_init_124 (V := V)) hF
  exact ⟨by omega, by omega⟩
theorem b_X0_init_110 {S' : mSh} {M' : mMm} {n' z' : Nat} {nS zS : Nat} (hV : mV V n0 P) (hnm : meth.name = "<init>") (X : mCx D n0 P p m c cX0_init 2 s args yX0_init.cls meth none) : ∀ (S : mSh) (M : mMm) (n z : Nat) (x0 : Nat) (y0 : Nat) (y1 : Nat) (H : Heap) (locs : List Loc) (ls : Array Slot), nS ≤ n → zS ≤ z → mHp D n0 S M n s H locs → lv_has ls 2 [(0, .ref x0)] → fb_X0_init_110 V S M n z x0 y0 y1 = some (S', M', n', z') → W p l e (Rm_X0_init (n' - nS) (z' - zS)) s m args below meth c H locs (n - nS) (z - zS) (MQ below (mQ D n0 none S' M' n') args s (n' - nS) (z' - zS) (mA n0)) (F0 m 110 ls [.ref y0, .ref y1]) := by
  have hx := X.1.1
  have hb := X.1.2.1
  have hown := X.1.2.2.2.1
  have hts := X.1.2.2.2.2
  intro S M n z x0 y0 y1 H locs ls hn hz hp hl hF
  have hm0 := mn_X0_init_110 hF
  unfold fb_X0_init_110 at hF
  obtain ⟨M53, e54, hF⟩ := ob_s hF
  refine m_putWF X hp e54 kX0 (Nat.le_of_ble_eq_true rfl) q471 rfl hnm rfl rfl rfl dX0_init_110 (fun H locs hp => ?_)
  refine lv_aload_n hx hb dX0_init_113 rfl (lv_at hl 0 rfl) ?_
  refine lv_iconst (v := 3) hx hb dX0_init_114 (by decide) ?_
  refine lv_bipush (v := 7) hx hb dX0_init_115 (by decide) ?_
  refine lv_sipush (v := 576) hx hb dX0_init_117 (by decide) ?_
  have hm := (mn_X0_init_124 (V := V)) hF
  refine m_multi3 X hp q453 q454 q203 q201 (by show _ ≤ n' - nS; omega) (by show _ ≤ z' - zS; omega) dX0_init_120 (fun H hp => ?_)
  refine W.widen (k := n + 25 - nS) (n := z + 12120 - zS) (by omega) (by omega) ?_
  exact b_X0_init_124 hV hnm X _ _ _ _ _ _ _ _ _ _ (by omega) (by omega) hp (lv_sub hl [0] rfl) hF
def fb_X0_init_101 (V : Nat → Nat) (S : mSh) (M : mMm) (n z : Nat) (x0 : Nat) (y0 : Nat) (y1 : Nat) : Option (mSh × mMm × Nat × Nat) := ob (wF S M y1 1 10 (.ref y0)) fun M51 => (fb_X0_init_110 V (mS1 S n (100, (4032 : Int32).toNatClampNeg)) (mM1 M51 n fun _ => .int 0) (n + 1) (z + (4032 : Int32).toNatClampNeg) x0 n x0)
theorem mn_X0_init_101 {S' : mSh} {M' : mMm} {n' z' : Nat} : ∀ {S : mSh} {M : mMm} {n z : Nat} {x0 : Nat} {y0 : Nat} {y1 : Nat}, fb_X0_init_101 V S M n z x0 y0 y1 = some (S', M', n', z') → n ≤ n' ∧ z ≤ z' := by
  intro S M n z x0 y0 y1 hF
  unfold fb_X0_init_101 at hF
  obtain ⟨M51, e52, hF⟩ := ob_s hF
  have h9 := (mn_X0_init_110 (V := V)) hF
  exact ⟨by omega, by omega⟩
theorem b_X0_init_101 {S' : mSh} {M' : mMm} {n' z' : Nat} {nS zS : Nat} (hV : mV V n0 P) (hnm : meth.name = "<init>") (X : mCx D n0 P p m c cX0_init 2 s args yX0_init.cls meth none) : ∀ (S : mSh) (M : mMm) (n z : Nat) (x0 : Nat) (y0 : Nat) (y1 : Nat) (H : Heap) (locs : List Loc) (ls : Array Slot), nS ≤ n → zS ≤ z → mHp D n0 S M n s H locs → lv_has ls 2 [(0, .ref x0)] → fb_X0_init_101 V S M n z x0 y0 y1 = some (S', M', n', z') → W p l e (Rm_X0_init (n' - nS) (z' - zS)) s m args below meth c H locs (n - nS) (z - zS) (MQ below (mQ D n0 none S' M' n') args s (n' - nS) (z' - zS) (mA n0)) (F0 m 101 ls [.ref y0, .ref y1]) := by
  have hx := X.1.1
  have hb := X.1.2.1
  have hown := X.1.2.2.2.1
  have hts := X.1.2.2.2.2
  intro S M n z x0 y0 y1 H locs ls hn hz hp hl hF
  have hm0 := mn_X0_init_101 hF
  unfold fb_X0_init_101 at hF
  obtain ⟨M51, e52, hF⟩ := ob_s hF
  refine m_putWF X hp e52 kX0 (Nat.le_of_ble_eq_true rfl) q470 rfl hnm rfl rfl rfl dX0_init_101 (fun H locs hp => ?_)
  refine lv_aload_n hx hb dX0_init_104 rfl (lv_at hl 0 rfl) ?_
  refine lv_sipush (v := 4032) hx hb dX0_init_105 (by decide) ?_
  have hm := (mn_X0_init_110 (V := V)) hF
  refine m_newa X hp 100 (atype := .int) rfl (by decide) (fun h => h) q201 (by decide) (by decide) rfl (by show _ ≤ n' - nS; omega) (by show _ ≤ z' - zS; omega) dX0_init_108 (fun H hp => ?_)
  refine W.widen (k := n + 1 - nS) (n := z + (4032 : Int32).toNatClampNeg - zS) (by omega) (by omega) ?_
  exact b_X0_init_110 hV hnm X _ _ _ _ _ _ _ _ _ _ (by omega) (by omega) hp (lv_sub hl [0] rfl) hF
def fb_X0_init_70 (V : Nat → Nat) : Nat → mSh → mMm → Nat → Nat → Nat → Int32 → Option (mSh × mMm × Nat × Nat)
  | 0, _, _, _, _, _, _ => none
  | t + 1, S, M, n, z, x0, x1 => (if (6 : Int32) ≤ x1 then (fb_X0_init_101 V (mS1 S n (100, (4032 : Int32).toNatClampNeg)) (mM1 M n fun _ => .int 0) (n + 1) (z + (4032 : Int32).toNatClampNeg) x0 n x0) else ob (rR S M x0 1 7) fun v38 => (fb_X0_init_84 V (fb_X0_init_70 V t) (mS1 S n (2, 0)) (mM1 M n fun k => defaultValue (tyX1 k)) (n + 1) (z + 19) x0 x1 n x1 v38))
theorem mn_X0_init_70 {S' : mSh} {M' : mMm} {n' z' : Nat} : ∀ {t : Nat} {S : mSh} {M : mMm} {n z : Nat} {x0 : Nat} {x1 : Int32}, fb_X0_init_70 V t S M n z x0 x1 = some (S', M', n', z') → n ≤ n' ∧ z ≤ z' := by
  intro t
  induction t with
  | zero =>
    intro S M n z x0 x1 hF
    have hF : none = some (S', M', n', z') := hF
    cases hF
  | succ t ihm =>
    intro S M n z x0 x1 hF
    rw [fb_X0_init_70] at hF
    rcases Decidable.em ((6 : Int32) ≤ x1) with c37 | c37
    · have hF := if_p c37 hF
      have h9 := (mn_X0_init_101 (V := V)) hF
      exact ⟨by omega, by omega⟩
    · have hF := if_n c37 hF
      obtain ⟨v38, e39, hF⟩ := ob_s hF
      have h9 := (mn_X0_init_84 (V := V) (fb_X0_init_70 V t) @ihm) hF
      exact ⟨by omega, by omega⟩
theorem b_X0_init_70 {S' : mSh} {M' : mMm} {n' z' : Nat} {nS zS : Nat} (hV : mV V n0 P) (hnm : meth.name = "<init>") (X : mCx D n0 P p m c cX0_init 2 s args yX0_init.cls meth none) : ∀ t : Nat, ∀ (S : mSh) (M : mMm) (n z : Nat) (x0 : Nat) (x1 : Int32) (H : Heap) (locs : List Loc) (ls : Array Slot), nS ≤ n → zS ≤ z → mHp D n0 S M n s H locs → lv_has ls 2 [(0, .ref x0), (1, .int x1)] → fb_X0_init_70 V t S M n z x0 x1 = some (S', M', n', z') → W p l e (Rm_X0_init (n' - nS) (z' - zS)) s m args below meth c H locs (n - nS) (z - zS) (MQ below (mQ D n0 none S' M' n') args s (n' - nS) (z' - zS) (mA n0)) (F0 m 70 ls []) := by
  have hx := X.1.1
  have hb := X.1.2.1
  have hown := X.1.2.2.2.1
  have hts := X.1.2.2.2.2
  intro t
  induction t with
  | zero =>
    intro S M n z x0 x1 H locs ls hn hz hp hl hF
    have hF : none = some (S', M', n', z') := hF
    cases hF
  | succ t ih =>
    intro S M n z x0 x1 H locs ls hn hz hp hl hF
    have ihm := @mn_X0_init_70 V S' M' n' z' t
    have hm0 := mn_X0_init_70 hF
    rw [fb_X0_init_70] at hF
    refine lv_iload_n hx hb dX0_init_70 rfl (lv_at hl 1 rfl) ?_
    refine lv_bipush (v := 6) hx hb dX0_init_71 (by decide) ?_
    refine lv_icmp_ge (tgt := 95) hx hb dX0_init_73 (by decide) (fun c37 => ?_) (fun c37 => ?_)
    · have hF := if_p c37 hF
      refine lv_aload_n hx hb dX0_init_95 rfl (lv_at hl 0 rfl) ?_
      refine lv_sipush (v := 4032) hx hb dX0_init_96 (by decide) ?_
      have hm := (mn_X0_init_101 (V := V)) hF
      refine m_newa X hp 100 (atype := .int) rfl (by decide) (fun h => h) q201 (by decide) (by decide) rfl (by show _ ≤ n' - nS; omega) (by show _ ≤ z' - zS; omega) dX0_init_99 (fun H hp => ?_)
      refine W.widen (k := n + 1 - nS) (n := z + (4032 : Int32).toNatClampNeg - zS) (by omega) (by omega) ?_
      exact b_X0_init_101 hV hnm X _ _ _ _ _ _ _ _ _ _ (by omega) (by omega) hp (lv_sub hl [0] rfl) hF
    · have hF := if_n c37 hF
      refine lv_aload_n hx hb dX0_init_76 rfl (lv_at hl 0 rfl) ?_
      obtain ⟨v38, e39, hF⟩ := ob_s hF
      refine m_getR X hp e39 kX0 (Nat.le_of_ble_eq_true rfl) q467 dX0_init_77 ?_
      refine lv_iload_n hx hb dX0_init_80 rfl (lv_at hl 1 rfl) ?_
      have hm := (mn_X0_init_84 (V := V) (fb_X0_init_70 V t) @ihm) hF
      refine m_new X hp kX1 q170 q171 q133 (by show _ ≤ n' - nS; omega) (by show _ ≤ z' - zS; omega) dX0_init_81 (fun H hp => ?_)
      refine W.widen (k := n + 1 - nS) (n := z + 19 - zS) (by omega) (by omega) ?_
      exact b_X0_init_84 hV hnm X (fb_X0_init_70 V t) @ihm ih _ _ _ _ _ _ _ _ _ _ _ _ (by omega) (by omega) hp (lv_sub hl [0, 1] rfl) hF
def fb_X0_init_57 (V : Nat → Nat) (S : mSh) (M : mMm) (n z : Nat) (x0 : Nat) (y0 : Nat) (y1 : Nat) : Option (mSh × mMm × Nat × Nat) := ob (wF S M y1 1 7 (.ref y0)) fun M29 => ob (rR S M29 x0 1 6) fun v31 => ob (wF S M29 v31 2 17 (.int (1 : Int32))) fun M33 => nm ((0 : Int32)) fun v35 => (fb_X0_init_70 V FU S M33 n z x0 v35)
theorem mn_X0_init_57 {S' : mSh} {M' : mMm} {n' z' : Nat} : ∀ {S : mSh} {M : mMm} {n z : Nat} {x0 : Nat} {y0 : Nat} {y1 : Nat}, fb_X0_init_57 V S M n z x0 y0 y1 = some (S', M', n', z') → n ≤ n' ∧ z ≤ z' := by
  intro S M n z x0 y0 y1 hF
  unfold fb_X0_init_57 at hF
  obtain ⟨M29, e30, hF⟩ := ob_s hF
  obtain ⟨v31, e32, hF⟩ := ob_s hF
  obtain ⟨M33, e34, hF⟩ := ob_s hF
  have hF := nm_s hF rfl
  have h9 := (mn_X0_init_70 (V := V)) hF
  exact ⟨by omega, by omega⟩
theorem b_X0_init_57 {S' : mSh} {M' : mMm} {n' z' : Nat} {nS zS : Nat} (hV : mV V n0 P) (hnm : meth.name = "<init>") (X : mCx D n0 P p m c cX0_init 2 s args yX0_init.cls meth none) : ∀ (S : mSh) (M : mMm) (n z : Nat) (x0 : Nat) (y0 : Nat) (y1 : Nat) (H : Heap) (locs : List Loc) (ls : Array Slot), nS ≤ n → zS ≤ z → mHp D n0 S M n s H locs → lv_has ls 2 [(0, .ref x0)] → fb_X0_init_57 V S M n z x0 y0 y1 = some (S', M', n', z') → W p l e (Rm_X0_init (n' - nS) (z' - zS)) s m args below meth c H locs (n - nS) (z - zS) (MQ below (mQ D n0 none S' M' n') args s (n' - nS) (z' - zS) (mA n0)) (F0 m 57 ls [.ref y0, .ref y1]) := by
  have hx := X.1.1
  have hb := X.1.2.1
  have hown := X.1.2.2.2.1
  have hts := X.1.2.2.2.2
  intro S M n z x0 y0 y1 H locs ls hn hz hp hl hF
  have hm0 := mn_X0_init_57 hF
  unfold fb_X0_init_57 at hF
  obtain ⟨M29, e30, hF⟩ := ob_s hF
  refine m_putWF X hp e30 kX0 (Nat.le_of_ble_eq_true rfl) q467 rfl hnm rfl rfl rfl dX0_init_57 (fun H locs hp => ?_)
  refine lv_aload_n hx hb dX0_init_60 rfl (lv_at hl 0 rfl) ?_
  obtain ⟨v31, e32, hF⟩ := ob_s hF
  refine m_getR X hp e32 kX0 (Nat.le_of_ble_eq_true rfl) q466 dX0_init_61 ?_
  refine lv_iconst (v := 1) hx hb dX0_init_64 (by decide) ?_
  obtain ⟨M33, e34, hF⟩ := ob_s hF
  refine m_putWN X hp e34 kX1 (Nat.le_of_ble_eq_true rfl) q410 rfl rfl rfl dX0_init_65 (fun H locs hp => ?_)
  refine lv_iconst (v := 0) hx hb dX0_init_68 (by decide) ?_
  refine lv_topi (fun v35 ev36 => ?_)
  have hF := nm_s hF ev36
  refine lv_istore_n (lv' := [(1, .int v35), (0, .ref x0)]) hx hb dX0_init_69 rfl hl (by decide) rfl (fun ls hl => ?_)
  exact b_X0_init_70 hV hnm X _ _ _ _ _ _ _ _ _ _ (by omega) (by omega) hp (lv_sub hl [1, 0] rfl) hF
def fb_X0_init_48 (V : Nat → Nat) (S : mSh) (M : mMm) (n z : Nat) (x0 : Nat) (y0 : Nat) (y1 : Nat) : Option (mSh × mMm × Nat × Nat) := ob (wF S M y1 1 6 (.ref y0)) fun M27 => (fb_X0_init_57 V (mS1 S n (106, (6 : Int32).toNatClampNeg)) (mM1 M27 n fun _ => .null) (n + 1) (z + (6 : Int32).toNatClampNeg) x0 n x0)
theorem mn_X0_init_48 {S' : mSh} {M' : mMm} {n' z' : Nat} : ∀ {S : mSh} {M : mMm} {n z : Nat} {x0 : Nat} {y0 : Nat} {y1 : Nat}, fb_X0_init_48 V S M n z x0 y0 y1 = some (S', M', n', z') → n ≤ n' ∧ z ≤ z' := by
  intro S M n z x0 y0 y1 hF
  unfold fb_X0_init_48 at hF
  obtain ⟨M27, e28, hF⟩ := ob_s hF
  have h9 := (mn_X0_init_57 (V := V)) hF
  exact ⟨by omega, by omega⟩
theorem b_X0_init_48 {S' : mSh} {M' : mMm} {n' z' : Nat} {nS zS : Nat} (hV : mV V n0 P) (hnm : meth.name = "<init>") (X : mCx D n0 P p m c cX0_init 2 s args yX0_init.cls meth none) : ∀ (S : mSh) (M : mMm) (n z : Nat) (x0 : Nat) (y0 : Nat) (y1 : Nat) (H : Heap) (locs : List Loc) (ls : Array Slot), nS ≤ n → zS ≤ z → mHp D n0 S M n s H locs → lv_has ls 2 [(0, .ref x0)] → fb_X0_init_48 V S M n z x0 y0 y1 = some (S', M', n', z') → W p l e (Rm_X0_init (n' - nS) (z' - zS)) s m args below meth c H locs (n - nS) (z - zS) (MQ below (mQ D n0 none S' M' n') args s (n' - nS) (z' - zS) (mA n0)) (F0 m 48 ls [.ref y0, .ref y1]) := by
  have hx := X.1.1
  have hb := X.1.2.1
  have hown := X.1.2.2.2.1
  have hts := X.1.2.2.2.2
  intro S M n z x0 y0 y1 H locs ls hn hz hp hl hF
  have hm0 := mn_X0_init_48 hF
  unfold fb_X0_init_48 at hF
  obtain ⟨M27, e28, hF⟩ := ob_s hF
  refine m_putWF X hp e28 kX0 (Nat.le_of_ble_eq_true rfl) q466 rfl hnm rfl rfl rfl dX0_init_48 (fun H locs hp => ?_)
  refine lv_aload_n hx hb dX0_init_51 rfl (lv_at hl 0 rfl) ?_
  refine lv_bipush (v := 6) hx hb dX0_init_52 (by decide) ?_
  have hm := (mn_X0_init_57 (V := V)) hF
  refine m_anew X hp 106 rfl (by decide) q170 q452 (by decide) (by decide) (by show _ ≤ n' - nS; omega) (by show _ ≤ z' - zS; omega) dX0_init_54 (fun H hp => ?_)
  refine W.widen (k := n + 1 - nS) (n := z + (6 : Int32).toNatClampNeg - zS) (by omega) (by omega) ?_
  exact b_X0_init_57 hV hnm X _ _ _ _ _ _ _ _ _ _ (by omega) (by omega) hp (lv_sub hl [0] rfl) hF
def fb_X0_init_44 (V : Nat → Nat) (S : mSh) (M : mMm) (n z : Nat) (x0 : Nat) (y0 : Nat) (y1 : Nat) : Option (mSh × mMm × Nat × Nat) := ob (f_X1_init V S M n z y0) fun ⟨S24, M23, n25, z26⟩ => (fb_X0_init_48 V S24 M23 n25 z26 x0 y0 y1)
theorem mn_X0_init_44 {S' : mSh} {M' : mMm} {n' z' : Nat} : ∀ {S : mSh} {M : mMm} {n z : Nat} {x0 : Nat} {y0 : Nat} {y1 : Nat}, fb_X0_init_44 V S M n z x0 y0 y1 = some (S', M', n', z') → n ≤ n' ∧ z ≤ z' := by
  intro S M n z x0 y0 y1 hF
  unfold fb_X0_init_44 at hF
  obtain ⟨⟨S24, M23, n25, z26⟩, e21, hF⟩ := ob_s hF
  have hc := mn_X1_init e21
  have h9 := (mn_X0_init_48 (V := V)) hF
  exact ⟨by omega, by omega⟩
theorem b_X0_init_44 {S' : mSh} {M' : mMm} {n' z' : Nat} {nS zS : Nat} (hV : mV V n0 P) (hnm : meth.name = "<init>") (X : mCx D n0 P p m c cX0_init 2 s args yX0_init.cls meth none) : ∀ (S : mSh) (M : mMm) (n z : Nat) (x0 : Nat) (y0 : Nat) (y1 : Nat) (H : Heap) (locs : List Loc) (ls : Array Slot), nS ≤ n → zS ≤ z → mHp D n0 S M n s H locs → lv_has ls 2 [(0, .ref x0)] → fb_X0_init_44 V S M n z x0 y0 y1 = some (S', M', n', z') → W p l e (Rm_X0_init (n' - nS) (z' - zS)) s m args below meth c H locs (n - nS) (z - zS) (MQ below (mQ D n0 none S' M' n') args s (n' - nS) (z' - zS) (mA n0)) (F0 m 44 ls [.ref y0, .ref y1]) := by
  have hx := X.1.1
  have hb := X.1.2.1
  have hown := X.1.2.2.2.1
  have hts := X.1.2.2.2.2
  intro S M n z x0 y0 y1 H locs ls hn hz hp hl hF
  have hm0 := mn_X0_init_44 hF
  unfold fb_X0_init_44 at hF
  refine lv_dup hx hb dX0_init_44 rfl ?_
  obtain ⟨⟨S24, M23, n25, z26⟩, e21, hF⟩ := ob_s hF
  have hc := mn_X1_init e21
  have hm := (mn_X0_init_48 (V := V)) hF
  refine m_callI (As := []) (rest := [.ref y0, .ref y1]) X hp (w_X1_init hV e21) q172 q173 q133 q174 rfl 0 rfl ds_X1_init ⟨Nat.le_of_ble_eq_true rfl, Nat.le_of_ble_eq_true rfl⟩ hl.1 rfl (Nat.le_of_ble_eq_true rfl) dX0_init_45 ⟨by show _ ≤ n' - nS; omega, by show _ ≤ z' - zS; omega⟩ (fun H locs hp => ?_)
  refine W.widen (k := n25 - nS) (n := z26 - zS) (by omega) (by omega) ?_
  exact b_X0_init_48 hV hnm X _ _ _ _ _ _ _ _ _ _ (by omega) (by omega) hp (lv_sub hl [0] rfl) hF
def fb_X0_init_37 (V : Nat → Nat) (S : mSh) (M : mMm) (n z : Nat) (x0 : Nat) (y0 : Nat) (y1 : Nat) : Option (mSh × mMm × Nat × Nat) := ob (wF S M y1 1 5 (.ref y0)) fun M19 => (fb_X0_init_44 V (mS1 S n (2, 0)) (mM1 M19 n fun k => defaultValue (tyX1 k)) (n + 1) (z + 19) x0 n x0)
theorem mn_X0_init_37 {S' : mSh} {M' : mMm} {n' z' : Nat} : ∀ {S : mSh} {M : mMm} {n z : Nat} {x0 : Nat} {y0 : Nat} {y1 : Nat}, fb_X0_init_37 V S M n z x0 y0 y1 = some (S', M', n', z') → n ≤ n' ∧ z ≤ z' := by
  intro S M n z x0 y0 y1 hF
  unfold fb_X0_init_37 at hF
  obtain ⟨M19, e20, hF⟩ := ob_s hF
  have h9 := (mn_X0_init_44 (V := V)) hF
  exact ⟨by omega, by omega⟩
theorem b_X0_init_37 {S' : mSh} {M' : mMm} {n' z' : Nat} {nS zS : Nat} (hV : mV V n0 P) (hnm : meth.name = "<init>") (X : mCx D n0 P p m c cX0_init 2 s args yX0_init.cls meth none) : ∀ (S : mSh) (M : mMm) (n z : Nat) (x0 : Nat) (y0 : Nat) (y1 : Nat) (H : Heap) (locs : List Loc) (ls : Array Slot), nS ≤ n → zS ≤ z → mHp D n0 S M n s H locs → lv_has ls 2 [(0, .ref x0)] → fb_X0_init_37 V S M n z x0 y0 y1 = some (S', M', n', z') → W p l e (Rm_X0_init (n' - nS) (z' - zS)) s m args below meth c H locs (n - nS) (z - zS) (MQ below (mQ D n0 none S' M' n') args s (n' - nS) (z' - zS) (mA n0)) (F0 m 37 ls [.ref y0, .ref y1]) := by
  have hx := X.1.1
  have hb := X.1.2.1
  have hown := X.1.2.2.2.1
  have hts := X.1.2.2.2.2
  intro S M n z x0 y0 y1 H locs ls hn hz hp hl hF
  have hm0 := mn_X0_init_37 hF
  unfold fb_X0_init_37 at hF
  obtain ⟨M19, e20, hF⟩ := ob_s hF
  refine m_putWF X hp e20 kX0 (Nat.le_of_ble_eq_true rfl) q465 rfl hnm rfl rfl rfl dX0_init_37 (fun H locs hp => ?_)
  refine lv_aload_n hx hb dX0_init_40 rfl (lv_at hl 0 rfl) ?_
  have hm := (mn_X0_init_44 (V := V)) hF
  refine m_new X hp kX1 q170 q171 q133 (by show _ ≤ n' - nS; omega) (by show _ ≤ z' - zS; omega) dX0_init_41 (fun H hp => ?_)
  refine W.widen (k := n + 1 - nS) (n := z + 19 - zS) (by omega) (by omega) ?_
  exact b_X0_init_44 hV hnm X _ _ _ _ _ _ _ _ _ _ (by omega) (by omega) hp (lv_sub hl [0] rfl) hF
def fb_X0_init_33 (V : Nat → Nat) (S : mSh) (M : mMm) (n z : Nat) (x0 : Nat) (y0 : Nat) (y1 : Nat) : Option (mSh × mMm × Nat × Nat) := ob (f_X1_init V S M n z y0) fun ⟨S16, M15, n17, z18⟩ => (fb_X0_init_37 V S16 M15 n17 z18 x0 y0 y1)
theorem mn_X0_init_33 {S' : mSh} {M' : mMm} {n' z' : Nat} : ∀ {S : mSh} {M : mMm} {n z : Nat} {x0 : Nat} {y0 : Nat} {y1 : Nat}, fb_X0_init_33 V S M n z x0 y0 y1 = some (S', M', n', z') → n ≤ n' ∧ z ≤ z' := by
  intro S M n z x0 y0 y1 hF
  unfold fb_X0_init_33 at hF
  obtain ⟨⟨S16, M15, n17, z18⟩, e13, hF⟩ := ob_s hF
  have hc := mn_X1_init e13
  have h9 := (mn_X0_init_37 (V := V)) hF
  exact ⟨by omega, by omega⟩
theorem b_X0_init_33 {S' : mSh} {M' : mMm} {n' z' : Nat} {nS zS : Nat} (hV : mV V n0 P) (hnm : meth.name = "<init>") (X : mCx D n0 P p m c cX0_init 2 s args yX0_init.cls meth none) : ∀ (S : mSh) (M : mMm) (n z : Nat) (x0 : Nat) (y0 : Nat) (y1 : Nat) (H : Heap) (locs : List Loc) (ls : Array Slot), nS ≤ n → zS ≤ z → mHp D n0 S M n s H locs → lv_has ls 2 [(0, .ref x0)] → fb_X0_init_33 V S M n z x0 y0 y1 = some (S', M', n', z') → W p l e (Rm_X0_init (n' - nS) (z' - zS)) s m args below meth c H locs (n - nS) (z - zS) (MQ below (mQ D n0 none S' M' n') args s (n' - nS) (z' - zS) (mA n0)) (F0 m 33 ls [.ref y0, .ref y1]) := by
  have hx := X.1.1
  have hb := X.1.2.1
  have hown := X.1.2.2.2.1
  have hts := X.1.2.2.2.2
  intro S M n z x0 y0 y1 H locs ls hn hz hp hl hF
  have hm0 := mn_X0_init_33 hF
  unfold fb_X0_init_33 at hF
  refine lv_dup hx hb dX0_init_33 rfl ?_
  obtain ⟨⟨S16, M15, n17, z18⟩, e13, hF⟩ := ob_s hF
  have hc := mn_X1_init e13
  have hm := (mn_X0_init_37 (V := V)) hF
  refine m_callI (As := []) (rest := [.ref y0, .ref y1]) X hp (w_X1_init hV e13) q172 q173 q133 q174 rfl 0 rfl ds_X1_init ⟨Nat.le_of_ble_eq_true rfl, Nat.le_of_ble_eq_true rfl⟩ hl.1 rfl (Nat.le_of_ble_eq_true rfl) dX0_init_34 ⟨by show _ ≤ n' - nS; omega, by show _ ≤ z' - zS; omega⟩ (fun H locs hp => ?_)
  refine W.widen (k := n17 - nS) (n := z18 - zS) (by omega) (by omega) ?_
  exact b_X0_init_37 hV hnm X _ _ _ _ _ _ _ _ _ _ (by omega) (by omega) hp (lv_sub hl [0] rfl) hF
def fb_X0_init_26 (V : Nat → Nat) (S : mSh) (M : mMm) (n z : Nat) (x0 : Nat) (y0 : Nat) (y1 : Nat) : Option (mSh × mMm × Nat × Nat) := ob (wF S M y1 1 4 (.ref y0)) fun M11 => (fb_X0_init_33 V (mS1 S n (2, 0)) (mM1 M11 n fun k => defaultValue (tyX1 k)) (n + 1) (z + 19) x0 n x0)
theorem mn_X0_init_26 {S' : mSh} {M' : mMm} {n' z' : Nat} : ∀ {S : mSh} {M : mMm} {n z : Nat} {x0 : Nat} {y0 : Nat} {y1 : Nat}, fb_X0_init_26 V S M n z x0 y0 y1 = some (S', M', n', z') → n ≤ n' ∧ z ≤ z' := by
  intro S M n z x0 y0 y1 hF
  unfold fb_X0_init_26 at hF
  obtain ⟨M11, e12, hF⟩ := ob_s hF
  have h9 := (mn_X0_init_33 (V := V)) hF
  exact ⟨by omega, by omega⟩
theorem b_X0_init_26 {S' : mSh} {M' : mMm} {n' z' : Nat} {nS zS : Nat} (hV : mV V n0 P) (hnm : meth.name = "<init>") (X : mCx D n0 P p m c cX0_init 2 s args yX0_init.cls meth none) : ∀ (S : mSh) (M : mMm) (n z : Nat) (x0 : Nat) (y0 : Nat) (y1 : Nat) (H : Heap) (locs : List Loc) (ls : Array Slot), nS ≤ n → zS ≤ z → mHp D n0 S M n s H locs → lv_has ls 2 [(0, .ref x0)] → fb_X0_init_26 V S M n z x0 y0 y1 = some (S', M', n', z') → W p l e (Rm_X0_init (n' - nS) (z' - zS)) s m args below meth c H locs (n - nS) (z - zS) (MQ below (mQ D n0 none S' M' n') args s (n' - nS) (z' - zS) (mA n0)) (F0 m 26 ls [.ref y0, .ref y1]) := by
  have hx := X.1.1
  have hb := X.1.2.1
  have hown := X.1.2.2.2.1
  have hts := X.1.2.2.2.2
  intro S M n z x0 y0 y1 H locs ls hn hz hp hl hF
  have hm0 := mn_X0_init_26 hF
  unfold fb_X0_init_26 at hF
  obtain ⟨M11, e12, hF⟩ := ob_s hF
  refine m_putWF X hp e12 kX0 (Nat.le_of_ble_eq_true rfl) q463 rfl hnm rfl rfl rfl dX0_init_26 (fun H locs hp => ?_)
  refine lv_aload_n hx hb dX0_init_29 rfl (lv_at hl 0 rfl) ?_
  have hm := (mn_X0_init_33 (V := V)) hF
  refine m_new X hp kX1 q170 q171 q133 (by show _ ≤ n' - nS; omega) (by show _ ≤ z' - zS; omega) dX0_init_30 (fun H hp => ?_)
  refine W.widen (k := n + 1 - nS) (n := z + 19 - zS) (by omega) (by omega) ?_
  exact b_X0_init_33 hV hnm X _ _ _ _ _ _ _ _ _ _ (by omega) (by omega) hp (lv_sub hl [0] rfl) hF
def fb_X0_init_22 (V : Nat → Nat) (S : mSh) (M : mMm) (n z : Nat) (x0 : Nat) (y0 : Nat) (y1 : Nat) : Option (mSh × mMm × Nat × Nat) := ob (f_X1_init V S M n z y0) fun ⟨S8, M7, n9, z10⟩ => (fb_X0_init_26 V S8 M7 n9 z10 x0 y0 y1)
theorem mn_X0_init_22 {S' : mSh} {M' : mMm} {n' z' : Nat} : ∀ {S : mSh} {M : mMm} {n z : Nat} {x0 : Nat} {y0 : Nat} {y1 : Nat}, fb_X0_init_22 V S M n z x0 y0 y1 = some (S', M', n', z') → n ≤ n' ∧ z ≤ z' := by
  intro S M n z x0 y0 y1 hF
  unfold fb_X0_init_22 at hF
  obtain ⟨⟨S8, M7, n9, z10⟩, e5, hF⟩ := ob_s hF
  have hc := mn_X1_init e5
  have h9 := (mn_X0_init_26 (V := V)) hF
  exact ⟨by omega, by omega⟩
theorem b_X0_init_22 {S' : mSh} {M' : mMm} {n' z' : Nat} {nS zS : Nat} (hV : mV V n0 P) (hnm : meth.name = "<init>") (X : mCx D n0 P p m c cX0_init 2 s args yX0_init.cls meth none) : ∀ (S : mSh) (M : mMm) (n z : Nat) (x0 : Nat) (y0 : Nat) (y1 : Nat) (H : Heap) (locs : List Loc) (ls : Array Slot), nS ≤ n → zS ≤ z → mHp D n0 S M n s H locs → lv_has ls 2 [(0, .ref x0)] → fb_X0_init_22 V S M n z x0 y0 y1 = some (S', M', n', z') → W p l e (Rm_X0_init (n' - nS) (z' - zS)) s m args below meth c H locs (n - nS) (z - zS) (MQ below (mQ D n0 none S' M' n') args s (n' - nS) (z' - zS) (mA n0)) (F0 m 22 ls [.ref y0, .ref y1]) := by
  have hx := X.1.1
  have hb := X.1.2.1
  have hown := X.1.2.2.2.1
  have hts := X.1.2.2.2.2
  intro S M n z x0 y0 y1 H locs ls hn hz hp hl hF
  have hm0 := mn_X0_init_22 hF
  unfold fb_X0_init_22 at hF
  refine lv_dup hx hb dX0_init_22 rfl ?_
  obtain ⟨⟨S8, M7, n9, z10⟩, e5, hF⟩ := ob_s hF
  have hc := mn_X1_init e5
  have hm := (mn_X0_init_26 (V := V)) hF
  refine m_callI (As := []) (rest := [.ref y0, .ref y1]) X hp (w_X1_init hV e5) q172 q173 q133 q174 rfl 0 rfl ds_X1_init ⟨Nat.le_of_ble_eq_true rfl, Nat.le_of_ble_eq_true rfl⟩ hl.1 rfl (Nat.le_of_ble_eq_true rfl) dX0_init_23 ⟨by show _ ≤ n' - nS; omega, by show _ ≤ z' - zS; omega⟩ (fun H locs hp => ?_)
  refine W.widen (k := n9 - nS) (n := z10 - zS) (by omega) (by omega) ?_
  exact b_X0_init_26 hV hnm X _ _ _ _ _ _ _ _ _ _ (by omega) (by omega) hp (lv_sub hl [0] rfl) hF
def fb_X0_init_10 (V : Nat → Nat) (S : mSh) (M : mMm) (n z : Nat) (x0 : Nat) (y0 : Nat) (y1 : Nat) : Option (mSh × mMm × Nat × Nat) := ob (wF S M y1 1 0 (.ref y0)) fun M1 => ob (wF S M1 x0 1 3 (.int (-1 : Int32))) fun M3 => (fb_X0_init_22 V (mS1 S n (2, 0)) (mM1 M3 n fun k => defaultValue (tyX1 k)) (n + 1) (z + 19) x0 n x0)
theorem mn_X0_init_10 {S' : mSh} {M' : mMm} {n' z' : Nat} : ∀ {S : mSh} {M : mMm} {n z : Nat} {x0 : Nat} {y0 : Nat} {y1 : Nat}, fb_X0_init_10 V S M n z x0 y0 y1 = some (S', M', n', z') → n ≤ n' ∧ z ≤ z' := by
  intro S M n z x0 y0 y1 hF
  unfold fb_X0_init_10 at hF
  obtain ⟨M1, e2, hF⟩ := ob_s hF
  obtain ⟨M3, e4, hF⟩ := ob_s hF
  have h9 := (mn_X0_init_22 (V := V)) hF
  exact ⟨by omega, by omega⟩
theorem b_X0_init_10 {S' : mSh} {M' : mMm} {n' z' : Nat} {nS zS : Nat} (hV : mV V n0 P) (hnm : meth.name = "<init>") (X : mCx D n0 P p m c cX0_init 2 s args yX0_init.cls meth none) : ∀ (S : mSh) (M : mMm) (n z : Nat) (x0 : Nat) (y0 : Nat) (y1 : Nat) (H : Heap) (locs : List Loc) (ls : Array Slot), nS ≤ n → zS ≤ z → mHp D n0 S M n s H locs → lv_has ls 2 [(0, .ref x0)] → fb_X0_init_10 V S M n z x0 y0 y1 = some (S', M', n', z') → W p l e (Rm_X0_init (n' - nS) (z' - zS)) s m args below meth c H locs (n - nS) (z - zS) (MQ below (mQ D n0 none S' M' n') args s (n' - nS) (z' - zS) (mA n0)) (F0 m 10 ls [.ref y0, .ref y1]) := by
  have hx := X.1.1
  have hb := X.1.2.1
  have hown := X.1.2.2.2.1
  have hts := X.1.2.2.2.2
  intro S M n z x0 y0 y1 H locs ls hn hz hp hl hF
  have hm0 := mn_X0_init_10 hF
  unfold fb_X0_init_10 at hF
  obtain ⟨M1, e2, hF⟩ := ob_s hF
  refine m_putWF X hp e2 kX0 (Nat.le_of_ble_eq_true rfl) q457 rfl hnm rfl rfl rfl dX0_init_10 (fun H locs hp => ?_)
  refine lv_aload_n hx hb dX0_init_13 rfl (lv_at hl 0 rfl) ?_
  refine lv_iconst (v := -1) hx hb dX0_init_14 (by decide) ?_
  obtain ⟨M3, e4, hF⟩ := ob_s hF
  refine m_putW X hp e4 kX0 (Nat.le_of_ble_eq_true rfl) q462 rfl rfl rfl dX0_init_15 (fun H locs hp => ?_)
  refine lv_aload_n hx hb dX0_init_18 rfl (lv_at hl 0 rfl) ?_
  have hm := (mn_X0_init_22 (V := V)) hF
  refine m_new X hp kX1 q170 q171 q133 (by show _ ≤ n' - nS; omega) (by show _ ≤ z' - zS; omega) dX0_init_19 (fun H hp => ?_)
  refine W.widen (k := n + 1 - nS) (n := z + 19 - zS) (by omega) (by omega) ?_
  exact b_X0_init_22 hV hnm X _ _ _ _ _ _ _ _ _ _ (by omega) (by omega) hp (lv_sub hl [0] rfl) hF
def fb_X0_init_0 (V : Nat → Nat) (S : mSh) (M : mMm) (n z : Nat) (x0 : Nat) : Option (mSh × mMm × Nat × Nat) := (fb_X0_init_10 V (mS1 S n (101, (400 : Int32).toNatClampNeg)) (mM1 M n fun _ => .int 0) (n + 1) (z + (400 : Int32).toNatClampNeg) x0 n x0)
theorem mn_X0_init_0 {S' : mSh} {M' : mMm} {n' z' : Nat} : ∀ {S : mSh} {M : mMm} {n z : Nat} {x0 : Nat}, fb_X0_init_0 V S M n z x0 = some (S', M', n', z') → n ≤ n' ∧ z ≤ z' := by
  intro S M n z x0 hF
  unfold fb_X0_init_0 at hF
  have h9 := (mn_X0_init_10 (V := V)) hF
  exact ⟨by omega, by omega⟩
theorem b_X0_init_0 {S' : mSh} {M' : mMm} {n' z' : Nat} {nS zS : Nat} (hV : mV V n0 P) (hnm : meth.name = "<init>") (X : mCx D n0 P p m c cX0_init 2 s args yX0_init.cls meth none) : ∀ (S : mSh) (M : mMm) (n z : Nat) (x0 : Nat) (H : Heap) (locs : List Loc) (ls : Array Slot), nS ≤ n → zS ≤ z → mHp D n0 S M n s H locs → lv_has ls 2 [(0, .ref x0)] → fb_X0_init_0 V S M n z x0 = some (S', M', n', z') → W p l e (Rm_X0_init (n' - nS) (z' - zS)) s m args below meth c H locs (n - nS) (z - zS) (MQ below (mQ D n0 none S' M' n') args s (n' - nS) (z' - zS) (mA n0)) (F0 m 0 ls []) := by
  have hx := X.1.1
  have hb := X.1.2.1
  have hown := X.1.2.2.2.1
  have hts := X.1.2.2.2.2
  intro S M n z x0 H locs ls hn hz hp hl hF
  have hm0 := mn_X0_init_0 hF
  unfold fb_X0_init_0 at hF
  refine lv_aload_n hx hb dX0_init_0 rfl (lv_at hl 0 rfl) ?_
  refine m_objInit X q167 q168 q169 hl.1 (Nat.le_of_ble_eq_true rfl) (Nat.le_of_ble_eq_true rfl) dX0_init_1 ?_
  refine lv_aload_n hx hb dX0_init_4 rfl (lv_at hl 0 rfl) ?_
  refine lv_sipush (v := 400) hx hb dX0_init_5 (by decide) ?_
  have hm := (mn_X0_init_10 (V := V)) hF
  refine m_newa X hp 101 (atype := .byte) rfl (by decide) (fun h => h) q200 (by decide) (by decide) rfl (by show _ ≤ n' - nS; omega) (by show _ ≤ z' - zS; omega) dX0_init_8 (fun H hp => ?_)
  refine W.widen (k := n + 1 - nS) (n := z + (400 : Int32).toNatClampNeg - zS) (by omega) (by omega) ?_
  exact b_X0_init_10 hV hnm X _ _ _ _ _ _ _ _ _ _ (by omega) (by omega) hp (lv_sub hl [0] rfl) hF
def f_X0_init (V : Nat → Nat) (S : mSh) (M : mMm) (n z : Nat) (x0 : Nat) : Option (mSh × mMm × Nat × Nat) := (fb_X0_init_0 V S M n z x0)
theorem mn_X0_init {x0 : Nat} {S' : mSh} {M' : mMm} {n' z' : Nat} {S : mSh} {M : mMm} {n z : Nat} (hF : f_X0_init V S M n z x0 = some (S', M', n', z')) : n ≤ n' ∧ z ≤ z' := by
  unfold f_X0_init at hF
  exact mn_X0_init_0 hF
theorem w_X0_init {x0 : Nat} {S' : mSh} {M' : mMm} {n' z' : Nat} {S : mSh} {M : mMm} {n z : Nat} (hV : mV V n0 P) (hF : f_X0_init V S M n z x0 = some (S', M', n', z')) : mCt l D n0 P yX0_init cX0_init 2 none 8 212 (n' - n) (z' - z) [.ref x0] S M n none S' M' n' := by
  refine m_ofW (by decide) (Nat.le_of_ble_eq_true rfl) (fun p e s m below meth c X hnm hp ls hl => ?_)
  unfold f_X0_init at hF
  refine W.widen (k := n - n) (n := z - z) (by omega) (by omega) ?_
  exact b_X0_init_0 hV hnm X _ _ _ _ _ _ _ _ (Nat.le_refl _) (Nat.le_refl _) hp hl hF
end
section
variable {l : Launch} {D : va_G} {n0 : Nat} {P : mP} {V : Nat → Nat} {p : Program} {e : Env} {s : State} {m : MethodId} {args : Array Value} {below : List Frame} {meth : Method} {c : Code}
abbrev Rm_X0_pigeons (mc ms : Nat) : Room := { frames := 4, cells := mc, slots := ms, locals := 92 }
def fb_X0_pigeons_112 (V : Nat → Nat) (k47 : mSh → mMm → Nat → Nat → Nat → Int32 → Nat → Int32 → Int32 → Int32 → Int32 → Option (Int32 × mSh × mMm × Nat × Nat)) (S : mSh) (M : mMm) (n z : Nat) (x0 : Nat) (x1 : Int32) (x2 : Nat) (x3 : Int32) (x4 : Int32) (x6 : Int32) (y0 : Int32) (y1 : Int32) : Option (Int32 × mSh × mMm × Nat × Nat) := nm ((y1 + y0)) fun v38 => nm (x6 + (1 : Int32)) fun v40 => (k47 S M n z x0 x1 x2 x3 x4 v38 v40)
theorem mn_X0_pigeons_112 {r : Int32} {S' : mSh} {M' : mMm} {n' z' : Nat} (k47 : mSh → mMm → Nat → Nat → Nat → Int32 → Nat → Int32 → Int32 → Int32 → Int32 → Option (Int32 × mSh × mMm × Nat × Nat)) (hmk47 : ∀ {S : mSh} {M : mMm} {n z : Nat} {x0 : Nat} {x1 : Int32} {x2 : Nat} {x3 : Int32} {x4 : Int32} {x5 : Int32} {x6 : Int32}, k47 S M n z x0 x1 x2 x3 x4 x5 x6 = some (r, S', M', n', z') → n ≤ n' ∧ z ≤ z') : ∀ {S : mSh} {M : mMm} {n z : Nat} {x0 : Nat} {x1 : Int32} {x2 : Nat} {x3 : Int32} {x4 : Int32} {x6 : Int32} {y0 : Int32} {y1 : Int32}, fb_X0_pigeons_112 V k47 S M n z x0 x1 x2 x3 x4 x6 y0 y1 = some (r, S', M', n', z') → n ≤ n' ∧ z ≤ z' := by
  intro S M n z x0 x1 x2 x3 x4 x6 y0 y1 hF
  unfold fb_X0_pigeons_112 at hF
  have hF := nm_s hF rfl
  obtain ⟨v40, ev41⟩ : ∃ y : Int32, y = x6 + (1 : Int32) := ⟨_, rfl⟩
  have hF := nm_s hF rfl
  have h9 := hmk47 hF
  exact ⟨by omega, by omega⟩
theorem b_X0_pigeons_112 {r : Int32} {S' : mSh} {M' : mMm} {n' z' : Nat} {nS zS : Nat} (hV : mV V n0 P) (X : mCx D n0 P p m c cX0_pigeons 8 s args yX0_pigeons.cls meth (some .int)) (k47 : mSh → mMm → Nat → Nat → Nat → Int32 → Nat → Int32 → Int32 → Int32 → Int32 → Option (Int32 × mSh × mMm × Nat × Nat)) (hmk47 : ∀ {S : mSh} {M : mMm} {n z : Nat} {x0 : Nat} {x1 : Int32} {x2 : Nat} {x3 : Int32} {x4 : Int32} {x5 : Int32} {x6 : Int32}, k47 S M n z x0 x1 x2 x3 x4 x5 x6 = some (r, S', M', n', z') → n ≤ n' ∧ z ≤ z') (hk47 : ∀ (S : mSh) (M : mMm) (n z : Nat) (x0 : Nat) (x1 : Int32) (x2 : Nat) (x3 : Int32) (x4 : Int32) (x5 : Int32) (x6 : Int32) (H : Heap) (locs : List Loc) (ls : Array Slot), nS ≤ n → zS ≤ z → mHp D n0 S M n s H locs → lv_has ls 8 [(0, .ref x0), (1, .int x1), (2, .ref x2), (3, .int x3), (4, .int x4), (5, .int x5), (6, .int x6)] → k47 S M n z x0 x1 x2 x3 x4 x5 x6 = some (r, S', M', n', z') → W p l e (Rm_X0_pigeons (n' - nS) (z' - zS)) s m args below meth c H locs (n - nS) (z - zS) (MQ below (mQ D n0 (some (.int r)) S' M' n') args s (n' - nS) (z' - zS) (mA n0)) (F0 m 47 ls [])) : ∀ (S : mSh) (M : mMm) (n z : Nat) (x0 : Nat) (x1 : Int32) (x2 : Nat) (x3 : Int32) (x4 : Int32) (x6 : Int32) (y0 : Int32) (y1 : Int32) (H : Heap) (locs : List Loc) (ls : Array Slot), nS ≤ n → zS ≤ z → mHp D n0 S M n s H locs → lv_has ls 8 [(0, .ref x0), (1, .int x1), (2, .ref x2), (3, .int x3), (4, .int x4), (6, .int x6)] → fb_X0_pigeons_112 V k47 S M n z x0 x1 x2 x3 x4 x6 y0 y1 = some (r, S', M', n', z') → W p l e (Rm_X0_pigeons (n' - nS) (z' - zS)) s m args below meth c H locs (n - nS) (z - zS) (MQ below (mQ D n0 (some (.int r)) S' M' n') args s (n' - nS) (z' - zS) (mA n0)) (F0 m 112 ls [.int y0, .int y1]) := by
  have hx := X.1.1
  have hb := X.1.2.1
  have hown := X.1.2.2.2.1
  have hts := X.1.2.2.2.2
  intro S M n z x0 x1 x2 x3 x4 x6 y0 y1 H locs ls hn hz hp hl hF
  have hm0 := mn_X0_pigeons_112 _ hmk47 hF
  unfold fb_X0_pigeons_112 at hF
  refine lv_iadd hx hb dX0_pigeons_112 ?_
  refine lv_topi (fun v38 ev39 => ?_)
  have hF := nm_s hF ev39
  refine lv_istore (lv' := [(5, .int v38), (0, .ref x0), (1, .int x1), (2, .ref x2), (3, .int x3), (4, .int x4), (6, .int x6)]) hx hb dX0_pigeons_113 hl (by decide) rfl (fun ls hl => ?_)
  obtain ⟨v40, ev41⟩ : ∃ y : Int32, y = x6 + (1 : Int32) := ⟨_, rfl⟩
  have hF := nm_s hF ev41
  refine lv_iinc (v := v40) (lv' := [(6, .int v40), (5, .int v38), (0, .ref x0), (1, .int x1), (2, .ref x2), (3, .int x3), (4, .int x4)]) hx hb dX0_pigeons_115 hl (k := 6) rfl (by rw [ev41]; rfl) (by decide) rfl (fun ls hl => ?_)
  refine lv_goto (tgt := 47) hx hb dX0_pigeons_118 (by decide) ?_
  exact hk47 _ _ _ _ _ _ _ _ _ _ _ _ _ _ (by omega) (by omega) hp (lv_sub hl [2, 3, 4, 5, 6, 1, 0] rfl) hF
def fb_X0_pigeons_75 (V : Nat → Nat) (k47 : mSh → mMm → Nat → Nat → Nat → Int32 → Nat → Int32 → Int32 → Int32 → Int32 → Option (Int32 × mSh × mMm × Nat × Nat)) (S : mSh) (M : mMm) (n z : Nat) (x0 : Nat) (x1 : Int32) (x2 : Nat) (x4 : Int32) (x5 : Int32) (x6 : Int32) (x7 : Int32) (y0 : Int32) (y1 : Int32) : Option (Int32 × mSh × mMm × Nat × Nat) := nm ((y1 + y0)) fun v27 => ob (f_J4_max x4 x7) fun v30 => gd ((S x0).1 = 1) (ob (f_X0_isOpen S M x0 x6) fun v33 => (if v33 = 0 then (fb_X0_pigeons_112 V k47 S M n z x0 x1 x2 v27 v30 x6 (0 : Int32) x5) else ob (f_X0_beside S M x0 x6) fun v36 => (if v36 = (1 : Int32) then (fb_X0_pigeons_112 V k47 S M n z x0 x1 x2 v27 v30 x6 (1 : Int32) x5) else (fb_X0_pigeons_112 V k47 S M n z x0 x1 x2 v27 v30 x6 (0 : Int32) x5))))
theorem mn_X0_pigeons_75 {r : Int32} {S' : mSh} {M' : mMm} {n' z' : Nat} (k47 : mSh → mMm → Nat → Nat → Nat → Int32 → Nat → Int32 → Int32 → Int32 → Int32 → Option (Int32 × mSh × mMm × Nat × Nat)) (hmk47 : ∀ {S : mSh} {M : mMm} {n z : Nat} {x0 : Nat} {x1 : Int32} {x2 : Nat} {x3 : Int32} {x4 : Int32} {x5 : Int32} {x6 : Int32}, k47 S M n z x0 x1 x2 x3 x4 x5 x6 = some (r, S', M', n', z') → n ≤ n' ∧ z ≤ z') : ∀ {S : mSh} {M : mMm} {n z : Nat} {x0 : Nat} {x1 : Int32} {x2 : Nat} {x4 : Int32} {x5 : Int32} {x6 : Int32} {x7 : Int32} {y0 : Int32} {y1 : Int32}, fb_X0_pigeons_75 V k47 S M n z x0 x1 x2 x4 x5 x6 x7 y0 y1 = some (r, S', M', n', z') → n ≤ n' ∧ z ≤ z' := by
  intro S M n z x0 x1 x2 x4 x5 x6 x7 y0 y1 hF
  unfold fb_X0_pigeons_75 at hF
  have hF := nm_s hF rfl
  obtain ⟨v30, e29, hF⟩ := ob_s hF
  obtain ⟨g31, hF⟩ := gd_s hF
  obtain ⟨v33, e32, hF⟩ := ob_s hF
  rcases Decidable.em (v33 = 0) with c34 | c34
  · have hF := if_p c34 hF
    have h9 := (mn_X0_pigeons_112 (V := V) k47 hmk47) hF
    exact ⟨by omega, by omega⟩
  · have hF := if_n c34 hF
    obtain ⟨v36, e35, hF⟩ := ob_s hF
    rcases (Decidable.em (v36 = (1 : Int32))).symm with c37 | c37
    · have hF := if_n c37 hF
      have h9 := (mn_X0_pigeons_112 (V := V) k47 hmk47) hF
      exact ⟨by omega, by omega⟩
    · have hF := if_p c37 hF
      have h9 := (mn_X0_pigeons_112 (V := V) k47 hmk47) hF
      exact ⟨by omega, by omega⟩
theorem b_X0_pigeons_75 {r : Int32} {S' : mSh} {M' : mMm} {n' z' : Nat} {nS zS : Nat} (hV : mV V n0 P) (X : mCx D n0 P p m c cX0_pigeons 8 s args yX0_pigeons.cls meth (some .int)) (k47 : mSh → mMm → Nat → Nat → Nat → Int32 → Nat → Int32 → Int32 → Int32 → Int32 → Option (Int32 × mSh × mMm × Nat × Nat)) (hmk47 : ∀ {S : mSh} {M : mMm} {n z : Nat} {x0 : Nat} {x1 : Int32} {x2 : Nat} {x3 : Int32} {x4 : Int32} {x5 : Int32} {x6 : Int32}, k47 S M n z x0 x1 x2 x3 x4 x5 x6 = some (r, S', M', n', z') → n ≤ n' ∧ z ≤ z') (hk47 : ∀ (S : mSh) (M : mMm) (n z : Nat) (x0 : Nat) (x1 : Int32) (x2 : Nat) (x3 : Int32) (x4 : Int32) (x5 : Int32) (x6 : Int32) (H : Heap) (locs : List Loc) (ls : Array Slot), nS ≤ n → zS ≤ z → mHp D n0 S M n s H locs → lv_has ls 8 [(0, .ref x0), (1, .int x1), (2, .ref x2), (3, .int x3), (4, .int x4), (5, .int x5), (6, .int x6)] → k47 S M n z x0 x1 x2 x3 x4 x5 x6 = some (r, S', M', n', z') → W p l e (Rm_X0_pigeons (n' - nS) (z' - zS)) s m args below meth c H locs (n - nS) (z - zS) (MQ below (mQ D n0 (some (.int r)) S' M' n') args s (n' - nS) (z' - zS) (mA n0)) (F0 m 47 ls [])) : ∀ (S : mSh) (M : mMm) (n z : Nat) (x0 : Nat) (x1 : Int32) (x2 : Nat) (x4 : Int32) (x5 : Int32) (x6 : Int32) (x7 : Int32) (y0 : Int32) (y1 : Int32) (H : Heap) (locs : List Loc) (ls : Array Slot), nS ≤ n → zS ≤ z → mHp D n0 S M n s H locs → lv_has ls 8 [(0, .ref x0), (1, .int x1), (2, .ref x2), (4, .int x4), (5, .int x5), (6, .int x6), (7, .int x7)] → fb_X0_pigeons_75 V k47 S M n z x0 x1 x2 x4 x5 x6 x7 y0 y1 = some (r, S', M', n', z') → W p l e (Rm_X0_pigeons (n' - nS) (z' - zS)) s m args below meth c H locs (n - nS) (z - zS) (MQ below (mQ D n0 (some (.int r)) S' M' n') args s (n' - nS) (z' - zS) (mA n0)) (F0 m 75 ls [.int y0, .int y1]) := by
  have hx := X.1.1
  have hb := X.1.2.1
  have hown := X.1.2.2.2.1
  have hts := X.1.2.2.2.2
  intro S M n z x0 x1 x2 x4 x5 x6 x7 y0 y1 H locs ls hn hz hp hl hF
  have hm0 := mn_X0_pigeons_75 _ hmk47 hF
  unfold fb_X0_pigeons_75 at hF
  refine lv_iadd hx hb dX0_pigeons_75 ?_
  refine lv_topi (fun v27 ev28 => ?_)
  have hF := nm_s hF ev28
  refine lv_istore_n (lv' := [(3, .int v27), (0, .ref x0), (1, .int x1), (2, .ref x2), (4, .int x4), (5, .int x5), (6, .int x6), (7, .int x7)]) hx hb dX0_pigeons_76 rfl hl (by decide) rfl (fun ls hl => ?_)
  refine lv_iload hx hb dX0_pigeons_77 (lv_at hl 4 rfl) ?_
  refine lv_iload hx hb dX0_pigeons_79 (lv_at hl 7 rfl) ?_
  obtain ⟨v30, e29, hF⟩ := ob_s hF
  refine m_callS (As := [.int x4, .int x7]) (rest := []) X hp (w_J4_max e29) q1170 q333 q141 q334 2 rfl ds_J4_max ⟨Nat.le_of_ble_eq_true rfl, Nat.le_of_ble_eq_true rfl⟩ hl.1 rfl (Nat.le_of_ble_eq_true rfl) dX0_pigeons_81 ⟨by show _ + 0 ≤ n' - nS; omega, by show _ + 0 ≤ z' - zS; omega⟩ (fun H locs hp => ?_)
  refine lv_istore (lv' := [(4, .int v30), (3, .int v27), (0, .ref x0), (1, .int x1), (2, .ref x2), (5, .int x5), (6, .int x6), (7, .int x7)]) hx hb dX0_pigeons_84 hl (by decide) rfl (fun ls hl => ?_)
  refine lv_iload hx hb dX0_pigeons_86 (lv_at hl 5 rfl) ?_
  refine lv_aload_n hx hb dX0_pigeons_88 rfl (lv_at hl 2 rfl) ?_
  refine lv_iload hx hb dX0_pigeons_89 (lv_at hl 6 rfl) ?_
  obtain ⟨g31, hF⟩ := gd_s hF
  obtain ⟨v33, e32, hF⟩ := ob_s hF
  refine m_callV (As := [.int x6]) (rest := [.int x5]) X hp (w_X0_isOpen e32) q1228 q1230 qs41 q132 q1231 1 rfl ds_X0_isOpen ⟨Nat.le_of_ble_eq_true rfl, Nat.le_of_ble_eq_true rfl⟩ 1 (T := TX0) (N := 30) rfl (by decide) g31 hl.1 rfl (Nat.le_of_ble_eq_true rfl) dX0_pigeons_91 ⟨by show _ + 0 ≤ n' - nS; omega, by show _ + 0 ≤ z' - zS; omega⟩ (fun H locs hp => ?_)
  refine lv_if_eq (tgt := 111) hx hb dX0_pigeons_94 (by decide) (fun c34 => ?_) (fun c34 => ?_)
  · have hF := if_p c34 hF
    refine lv_iconst (v := 0) hx hb dX0_pigeons_111 (by decide) ?_
    exact b_X0_pigeons_112 hV X k47 hmk47 hk47 _ _ _ _ _ _ _ _ _ _ _ _ _ _ _ (by omega) (by omega) hp (lv_sub hl [2, 3, 4, 1, 0, 6] rfl) hF
  · have hF := if_n c34 hF
    refine lv_aload_n hx hb dX0_pigeons_97 rfl (lv_at hl 2 rfl) ?_
    refine lv_iload hx hb dX0_pigeons_98 (lv_at hl 6 rfl) ?_
    obtain ⟨v36, e35, hF⟩ := ob_s hF
    refine m_callV (As := [.int x6]) (rest := [.int x5]) X hp (w_X0_beside e35) q1417 q1419 qs62 q132 q1420 1 rfl ds_X0_beside ⟨Nat.le_of_ble_eq_true rfl, Nat.le_of_ble_eq_true rfl⟩ 1 (T := TX0) (N := 30) rfl (by decide) g31 hl.1 rfl (Nat.le_of_ble_eq_true rfl) dX0_pigeons_100 ⟨by show _ + 0 ≤ n' - nS; omega, by show _ + 0 ≤ z' - zS; omega⟩ (fun H locs hp => ?_)
    refine lv_iconst (v := 1) hx hb dX0_pigeons_103 (by decide) ?_
    refine lv_icmp_ne (tgt := 111) hx hb dX0_pigeons_104 (by decide) (fun c37 => ?_) (fun c37 => ?_)
    · have hF := if_n c37 hF
      refine lv_iconst (v := 0) hx hb dX0_pigeons_111 (by decide) ?_
      exact b_X0_pigeons_112 hV X k47 hmk47 hk47 _ _ _ _ _ _ _ _ _ _ _ _ _ _ _ (by omega) (by omega) hp (lv_sub hl [2, 3, 4, 1, 0, 6] rfl) hF
    · have hF := if_p c37 hF
      refine lv_iconst (v := 1) hx hb dX0_pigeons_107 (by decide) ?_
      refine lv_goto (tgt := 112) hx hb dX0_pigeons_108 (by decide) ?_
      exact b_X0_pigeons_112 hV X k47 hmk47 hk47 _ _ _ _ _ _ _ _ _ _ _ _ _ _ _ (by omega) (by omega) hp (lv_sub hl [2, 3, 4, 1, 0, 6] rfl) hF
def fb_X0_pigeons_47 (V : Nat → Nat) : Nat → mSh → mMm → Nat → Nat → Nat → Int32 → Nat → Int32 → Int32 → Int32 → Int32 → Option (Int32 × mSh × mMm × Nat × Nat)
  | 0, _, _, _, _, _, _, _, _, _, _, _ => none
  | t + 1, S, M, n, z, x0, x1, x2, x3, x4, x5, x6 => (if (144 : Int32) ≤ x6 then (if x1 = 0 then some (x3, S, M, n, z) else (if x1 = (1 : Int32) then some (x4, S, M, n, z) else some (x5, S, M, n, z))) else gd ((S x0).1 = 1) (ob (f_X0_flock S M x0 x6 x2) fun ⟨v24, M25⟩ => (if v24 ≤ 0 then (fb_X0_pigeons_75 V (fb_X0_pigeons_47 V t) S M25 n z x0 x1 x2 x4 x5 x6 v24 (0 : Int32) x3) else (fb_X0_pigeons_75 V (fb_X0_pigeons_47 V t) S M25 n z x0 x1 x2 x4 x5 x6 v24 (1 : Int32) x3))))
theorem mn_X0_pigeons_47 {r : Int32} {S' : mSh} {M' : mMm} {n' z' : Nat} : ∀ {t : Nat} {S : mSh} {M : mMm} {n z : Nat} {x0 : Nat} {x1 : Int32} {x2 : Nat} {x3 : Int32} {x4 : Int32} {x5 : Int32} {x6 : Int32}, fb_X0_pigeons_47 V t S M n z x0 x1 x2 x3 x4 x5 x6 = some (r, S', M', n', z') → n ≤ n' ∧ z ≤ z' := by
  intro t
  induction t with
  | zero =>
    intro S M n z x0 x1 x2 x3 x4 x5 x6 hF
    have hF : none = some (r, S', M', n', z') := hF
    cases hF
  | succ t ihm =>
    intro S M n z x0 x1 x2 x3 x4 x5 x6 hF
    rw [fb_X0_pigeons_47] at hF
    rcases Decidable.em ((144 : Int32) ≤ x6) with c19 | c19
    · have hF := if_p c19 hF
      rcases (Decidable.em (x1 = 0)).symm with c20 | c20
      · have hF := if_n c20 hF
        rcases (Decidable.em (x1 = (1 : Int32))).symm with c21 | c21
        · have hF := if_n c21 hF
          cases hF
          exact ⟨Nat.le_refl _, Nat.le_refl _⟩
        · have hF := if_p c21 hF
          cases hF
          exact ⟨Nat.le_refl _, Nat.le_refl _⟩
      · have hF := if_p c20 hF
        cases hF
        exact ⟨Nat.le_refl _, Nat.le_refl _⟩
    · have hF := if_n c19 hF
      obtain ⟨g22, hF⟩ := gd_s hF
      obtain ⟨⟨v24, M25⟩, e23, hF⟩ := ob_s hF
      rcases Decidable.em (v24 ≤ 0) with c26 | c26
      · have hF := if_p c26 hF
        have h9 := (mn_X0_pigeons_75 (V := V) (fb_X0_pigeons_47 V t) @ihm) hF
        exact ⟨by omega, by omega⟩
      · have hF := if_n c26 hF
        have h9 := (mn_X0_pigeons_75 (V := V) (fb_X0_pigeons_47 V t) @ihm) hF
        exact ⟨by omega, by omega⟩
theorem b_X0_pigeons_47 {r : Int32} {S' : mSh} {M' : mMm} {n' z' : Nat} {nS zS : Nat} (hV : mV V n0 P) (X : mCx D n0 P p m c cX0_pigeons 8 s args yX0_pigeons.cls meth (some .int)) : ∀ t : Nat, ∀ (S : mSh) (M : mMm) (n z : Nat) (x0 : Nat) (x1 : Int32) (x2 : Nat) (x3 : Int32) (x4 : Int32) (x5 : Int32) (x6 : Int32) (H : Heap) (locs : List Loc) (ls : Array Slot), nS ≤ n → zS ≤ z → mHp D n0 S M n s H locs → lv_has ls 8 [(0, .ref x0), (1, .int x1), (2, .ref x2), (3, .int x3), (4, .int x4), (5, .int x5), (6, .int x6)] → fb_X0_pigeons_47 V t S M n z x0 x1 x2 x3 x4 x5 x6 = some (r, S', M', n', z') → W p l e (Rm_X0_pigeons (n' - nS) (z' - zS)) s m args below meth c H locs (n - nS) (z - zS) (MQ below (mQ D n0 (some (.int r)) S' M' n') args s (n' - nS) (z' - zS) (mA n0)) (F0 m 47 ls []) := by
  have hx := X.1.1
  have hb := X.1.2.1
  have hown := X.1.2.2.2.1
  have hts := X.1.2.2.2.2
  intro t
  induction t with
  | zero =>
    intro S M n z x0 x1 x2 x3 x4 x5 x6 H locs ls hn hz hp hl hF
    have hF : none = some (r, S', M', n', z') := hF
    cases hF
  | succ t ih =>
    intro S M n z x0 x1 x2 x3 x4 x5 x6 H locs ls hn hz hp hl hF
    have ihm := @mn_X0_pigeons_47 V r S' M' n' z' t
    have hm0 := mn_X0_pigeons_47 hF
    rw [fb_X0_pigeons_47] at hF
    refine lv_iload hx hb dX0_pigeons_47 (lv_at hl 6 rfl) ?_
    refine lv_sipush (v := 144) hx hb dX0_pigeons_49 (by decide) ?_
    refine lv_icmp_ge (tgt := 121) hx hb dX0_pigeons_52 (by decide) (fun c19 => ?_) (fun c19 => ?_)
    · have hF := if_p c19 hF
      refine lv_iload_n hx hb dX0_pigeons_121 rfl (lv_at hl 1 rfl) ?_
      refine lv_if_ne (tgt := 129) hx hb dX0_pigeons_122 (by decide) (fun c20 => ?_) (fun c20 => ?_)
      · have hF := if_n c20 hF
        refine lv_iload_n hx hb dX0_pigeons_129 rfl (lv_at hl 1 rfl) ?_
        refine lv_iconst (v := 1) hx hb dX0_pigeons_130 (by decide) ?_
        refine lv_icmp_ne (tgt := 139) hx hb dX0_pigeons_131 (by decide) (fun c21 => ?_) (fun c21 => ?_)
        · have hF := if_n c21 hF
          refine lv_iload hx hb dX0_pigeons_139 (lv_at hl 5 rfl) ?_
          cases hF
          exact m_iret X hp dX0_pigeons_141
        · have hF := if_p c21 hF
          refine lv_iload hx hb dX0_pigeons_134 (lv_at hl 4 rfl) ?_
          refine lv_goto (tgt := 141) hx hb dX0_pigeons_136 (by decide) ?_
          cases hF
          exact m_iret X hp dX0_pigeons_141
      · have hF := if_p c20 hF
        refine lv_iload_n hx hb dX0_pigeons_125 rfl (lv_at hl 3 rfl) ?_
        refine lv_goto (tgt := 141) hx hb dX0_pigeons_126 (by decide) ?_
        cases hF
        exact m_iret X hp dX0_pigeons_141
    · have hF := if_n c19 hF
      refine lv_aload_n hx hb dX0_pigeons_55 rfl (lv_at hl 0 rfl) ?_
      refine lv_iload hx hb dX0_pigeons_56 (lv_at hl 6 rfl) ?_
      refine lv_aload_n hx hb dX0_pigeons_58 rfl (lv_at hl 2 rfl) ?_
      obtain ⟨g22, hF⟩ := gd_s hF
      obtain ⟨⟨v24, M25⟩, e23, hF⟩ := ob_s hF
      refine m_callV (As := [.int x6, .ref x2]) (rest := []) X hp (w_X0_flock e23) q1413 q1415 qs61 q132 q1416 2 rfl ds_X0_flock ⟨Nat.le_of_ble_eq_true rfl, Nat.le_of_ble_eq_true rfl⟩ 1 (T := TX0) (N := 30) rfl (by decide) g22 hl.1 rfl (Nat.le_of_ble_eq_true rfl) dX0_pigeons_59 ⟨by show _ + 0 ≤ n' - nS; omega, by show _ + 0 ≤ z' - zS; omega⟩ (fun H locs hp => ?_)
      refine lv_istore (lv' := [(7, .int v24), (0, .ref x0), (1, .int x1), (2, .ref x2), (3, .int x3), (4, .int x4), (5, .int x5), (6, .int x6)]) hx hb dX0_pigeons_62 hl (by decide) rfl (fun ls hl => ?_)
      refine lv_iload_n hx hb dX0_pigeons_64 rfl (lv_at hl 4 rfl) ?_
      refine lv_iload hx hb dX0_pigeons_65 (lv_at hl 0 rfl) ?_
      refine lv_if_le (tgt := 74) hx hb dX0_pigeons_67 (by decide) (fun c26 => ?_) (fun c26 => ?_)
      · have hF := if_p c26 hF
        refine lv_iconst (v := 0) hx hb dX0_pigeons_74 (by decide) ?_
        exact b_X0_pigeons_75 hV X (fb_X0_pigeons_47 V t) @ihm ih _ _ _ _ _ _ _ _ _ _ _ _ _ _ _ _ (by omega) (by omega) hp (lv_sub hl [1, 2, 3, 5, 6, 7, 0] rfl) hF
      · have hF := if_n c26 hF
        refine lv_iconst (v := 1) hx hb dX0_pigeons_70 (by decide) ?_
        refine lv_goto (tgt := 75) hx hb dX0_pigeons_71 (by decide) ?_
        exact b_X0_pigeons_75 hV X (fb_X0_pigeons_47 V t) @ihm ih _ _ _ _ _ _ _ _ _ _ _ _ _ _ _ _ (by omega) (by omega) hp (lv_sub hl [1, 2, 3, 5, 6, 7, 0] rfl) hF
def fb_X0_pigeons_19 (V : Nat → Nat) : Nat → mSh → mMm → Nat → Nat → Nat → Int32 → Nat → Int32 → Option (Int32 × mSh × mMm × Nat × Nat)
  | 0, _, _, _, _, _, _, _, _ => none
  | t + 1, S, M, n, z, x0, x1, x2, x3 => (if (144 : Int32) ≤ x3 then nm ((0 : Int32)) fun v7 => nm ((0 : Int32)) fun v9 => nm ((0 : Int32)) fun v11 => nm ((0 : Int32)) fun v13 => (fb_X0_pigeons_47 V FU S M n z x0 x1 x2 v7 v9 v11 v13) else ob (wA S M x2 102 x3 (.int ((1 : Int32) &&& 1))) fun M15 => nm (x3 + (1 : Int32)) fun v17 => (fb_X0_pigeons_19 V t S M15 n z x0 x1 x2 v17))
theorem mn_X0_pigeons_19 {r : Int32} {S' : mSh} {M' : mMm} {n' z' : Nat} : ∀ {t : Nat} {S : mSh} {M : mMm} {n z : Nat} {x0 : Nat} {x1 : Int32} {x2 : Nat} {x3 : Int32}, fb_X0_pigeons_19 V t S M n z x0 x1 x2 x3 = some (r, S', M', n', z') → n ≤ n' ∧ z ≤ z' := by
  intro t
  induction t with
  | zero =>
    intro S M n z x0 x1 x2 x3 hF
    have hF : none = some (r, S', M', n', z') := hF
    cases hF
  | succ t ihm =>
    intro S M n z x0 x1 x2 x3 hF
    rw [fb_X0_pigeons_19] at hF
    rcases Decidable.em ((144 : Int32) ≤ x3) with c6 | c6
    · have hF := if_p c6 hF
      have hF := nm_s hF rfl
      have hF := nm_s hF rfl
      have hF := nm_s hF rfl
      have hF := nm_s hF rfl
      have h9 := (mn_X0_pigeons_47 (V := V)) hF
      exact ⟨by omega, by omega⟩
    · have hF := if_n c6 hF
      obtain ⟨M15, e16, hF⟩ := ob_s hF
      obtain ⟨v17, ev18⟩ : ∃ y : Int32, y = x3 + (1 : Int32) := ⟨_, rfl⟩
      have hF := nm_s hF rfl
      have h9 := ihm hF
      exact ⟨by omega, by omega⟩
theorem b_X0_pigeons_19 {r : Int32} {S' : mSh} {M' : mMm} {n' z' : Nat} {nS zS : Nat} (hV : mV V n0 P) (X : mCx D n0 P p m c cX0_pigeons 8 s args yX0_pigeons.cls meth (some .int)) : ∀ t : Nat, ∀ (S : mSh) (M : mMm) (n z : Nat) (x0 : Nat) (x1 : Int32) (x2 : Nat) (x3 : Int32) (H : Heap) (locs : List Loc) (ls : Array Slot), nS ≤ n → zS ≤ z → mHp D n0 S M n s H locs → lv_has ls 8 [(0, .ref x0), (1, .int x1), (2, .ref x2), (3, .int x3)] → fb_X0_pigeons_19 V t S M n z x0 x1 x2 x3 = some (r, S', M', n', z') → W p l e (Rm_X0_pigeons (n' - nS) (z' - zS)) s m args below meth c H locs (n - nS) (z - zS) (MQ below (mQ D n0 (some (.int r)) S' M' n') args s (n' - nS) (z' - zS) (mA n0)) (F0 m 19 ls []) := by
  have hx := X.1.1
  have hb := X.1.2.1
  have hown := X.1.2.2.2.1
  have hts := X.1.2.2.2.2
  intro t
  induction t with
  | zero =>
    intro S M n z x0 x1 x2 x3 H locs ls hn hz hp hl hF
    have hF : none = some (r, S', M', n', z') := hF
    cases hF
  | succ t ih =>
    intro S M n z x0 x1 x2 x3 H locs ls hn hz hp hl hF
    have ihm := @mn_X0_pigeons_19 V r S' M' n' z' t
    have hm0 := mn_X0_pigeons_19 hF
    rw [fb_X0_pigeons_19] at hF
    refine lv_iload_n hx hb dX0_pigeons_19 rfl (lv_at hl 3 rfl) ?_
    refine lv_sipush (v := 144) hx hb dX0_pigeons_20 (by decide) ?_
    refine lv_icmp_ge (tgt := 36) hx hb dX0_pigeons_23 (by decide) (fun c6 => ?_) (fun c6 => ?_)
    · have hF := if_p c6 hF
      refine lv_iconst (v := 0) hx hb dX0_pigeons_36 (by decide) ?_
      refine lv_topi (fun v7 ev8 => ?_)
      have hF := nm_s hF ev8
      refine lv_istore_n (lv' := [(3, .int v7), (0, .ref x0), (1, .int x1), (2, .ref x2)]) hx hb dX0_pigeons_37 rfl hl (by decide) rfl (fun ls hl => ?_)
      refine lv_iconst (v := 0) hx hb dX0_pigeons_38 (by decide) ?_
      refine lv_topi (fun v9 ev10 => ?_)
      have hF := nm_s hF ev10
      refine lv_istore (lv' := [(4, .int v9), (3, .int v7), (0, .ref x0), (1, .int x1), (2, .ref x2)]) hx hb dX0_pigeons_39 hl (by decide) rfl (fun ls hl => ?_)
      refine lv_iconst (v := 0) hx hb dX0_pigeons_41 (by decide) ?_
      refine lv_topi (fun v11 ev12 => ?_)
      have hF := nm_s hF ev12
      refine lv_istore (lv' := [(5, .int v11), (4, .int v9), (3, .int v7), (0, .ref x0), (1, .int x1), (2, .ref x2)]) hx hb dX0_pigeons_42 hl (by decide) rfl (fun ls hl => ?_)
      refine lv_iconst (v := 0) hx hb dX0_pigeons_44 (by decide) ?_
      refine lv_topi (fun v13 ev14 => ?_)
      have hF := nm_s hF ev14
      refine lv_istore (lv' := [(6, .int v13), (5, .int v11), (4, .int v9), (3, .int v7), (0, .ref x0), (1, .int x1), (2, .ref x2)]) hx hb dX0_pigeons_45 hl (by decide) rfl (fun ls hl => ?_)
      exact b_X0_pigeons_47 hV X _ _ _ _ _ _ _ _ _ _ _ _ _ _ _ (by omega) (by omega) hp (lv_sub hl [4, 5, 6, 3, 2, 1, 0] rfl) hF
    · have hF := if_n c6 hF
      refine lv_aload_n hx hb dX0_pigeons_26 rfl (lv_at hl 2 rfl) ?_
      refine lv_iload_n hx hb dX0_pigeons_27 rfl (lv_at hl 3 rfl) ?_
      refine lv_iconst (v := 1) hx hb dX0_pigeons_28 (by decide) ?_
      obtain ⟨M15, e16, hF⟩ := ob_s hF
      refine m_zaW X hp e16 dX0_pigeons_29 (fun H locs hp => ?_)
      obtain ⟨v17, ev18⟩ : ∃ y : Int32, y = x3 + (1 : Int32) := ⟨_, rfl⟩
      have hF := nm_s hF ev18
      refine lv_iinc (v := v17) (lv' := [(3, .int v17), (0, .ref x0), (1, .int x1), (2, .ref x2)]) hx hb dX0_pigeons_30 hl (k := 3) rfl (by rw [ev18]; rfl) (by decide) rfl (fun ls hl => ?_)
      refine lv_goto (tgt := 19) hx hb dX0_pigeons_33 (by decide) ?_
      exact ih _ _ _ _ _ _ _ _ _ _ _ (by omega) (by omega) hp (lv_sub hl [1, 2, 3, 0] rfl) hF
def fb_X0_pigeons_16 (V : Nat → Nat) (S : mSh) (M : mMm) (n z : Nat) (x0 : Nat) (x1 : Int32) (y0 : Nat) : Option (Int32 × mSh × mMm × Nat × Nat) := nm ((0 : Int32)) fun v4 => (fb_X0_pigeons_19 V FU S M n z x0 x1 y0 v4)
theorem mn_X0_pigeons_16 {r : Int32} {S' : mSh} {M' : mMm} {n' z' : Nat} : ∀ {S : mSh} {M : mMm} {n z : Nat} {x0 : Nat} {x1 : Int32} {y0 : Nat}, fb_X0_pigeons_16 V S M n z x0 x1 y0 = some (r, S', M', n', z') → n ≤ n' ∧ z ≤ z' := by
  intro S M n z x0 x1 y0 hF
  unfold fb_X0_pigeons_16 at hF
  have hF := nm_s hF rfl
  have h9 := (mn_X0_pigeons_19 (V := V)) hF
  exact ⟨by omega, by omega⟩
theorem b_X0_pigeons_16 {r : Int32} {S' : mSh} {M' : mMm} {n' z' : Nat} {nS zS : Nat} (hV : mV V n0 P) (X : mCx D n0 P p m c cX0_pigeons 8 s args yX0_pigeons.cls meth (some .int)) : ∀ (S : mSh) (M : mMm) (n z : Nat) (x0 : Nat) (x1 : Int32) (y0 : Nat) (H : Heap) (locs : List Loc) (ls : Array Slot), nS ≤ n → zS ≤ z → mHp D n0 S M n s H locs → lv_has ls 8 [(0, .ref x0), (1, .int x1)] → fb_X0_pigeons_16 V S M n z x0 x1 y0 = some (r, S', M', n', z') → W p l e (Rm_X0_pigeons (n' - nS) (z' - zS)) s m args below meth c H locs (n - nS) (z - zS) (MQ below (mQ D n0 (some (.int r)) S' M' n') args s (n' - nS) (z' - zS) (mA n0)) (F0 m 16 ls [.ref y0]) := by
  have hx := X.1.1
  have hb := X.1.2.1
  have hown := X.1.2.2.2.1
  have hts := X.1.2.2.2.2
  intro S M n z x0 x1 y0 H locs ls hn hz hp hl hF
  have hm0 := mn_X0_pigeons_16 hF
  unfold fb_X0_pigeons_16 at hF
  refine lv_astore_n (lv' := [(2, .ref y0), (0, .ref x0), (1, .int x1)]) hx hb dX0_pigeons_16 rfl hl (by decide) rfl (fun ls hl => ?_)
  refine lv_iconst (v := 0) hx hb dX0_pigeons_17 (by decide) ?_
  refine lv_topi (fun v4 ev5 => ?_)
  have hF := nm_s hF ev5
  refine lv_istore_n (lv' := [(3, .int v4), (2, .ref y0), (0, .ref x0), (1, .int x1)]) hx hb dX0_pigeons_18 rfl hl (by decide) rfl (fun ls hl => ?_)
  exact b_X0_pigeons_19 hV X _ _ _ _ _ _ _ _ _ _ _ _ (by omega) (by omega) hp (lv_sub hl [2, 3, 1, 0] rfl) hF
def fb_X0_pigeons_0 (V : Nat → Nat) (S : mSh) (M : mMm) (n z : Nat) (x0 : Nat) (x1 : Int32) : Option (Int32 × mSh × mMm × Nat × Nat) := ob (f_X0_isIn x1 (0 : Int32) (2 : Int32)) fun v2 => (if v2 = 0 then some ((-1 : Int32), S, M, n, z) else (fb_X0_pigeons_16 V (mS1 S n (102, (144 : Int32).toNatClampNeg)) (mM1 M n fun _ => .int 0) (n + 1) (z + (144 : Int32).toNatClampNeg) x0 x1 n))
theorem mn_X0_pigeons_0 {r : Int32} {S' : mSh} {M' : mMm} {n' z' : Nat} : ∀ {S : mSh} {M : mMm} {n z : Nat} {x0 : Nat} {x1 : Int32}, fb_X0_pigeons_0 V S M n z x0 x1 = some (r, S', M', n', z') → n ≤ n' ∧ z ≤ z' := by
  intro S M n z x0 x1 hF
  unfold fb_X0_pigeons_0 at hF
  obtain ⟨v2, e1, hF⟩ := ob_s hF
  rcases (Decidable.em (v2 = 0)).symm with c3 | c3
  · have hF := if_n c3 hF
    have h9 := (mn_X0_pigeons_16 (V := V)) hF
    exact ⟨by omega, by omega⟩
  · have hF := if_p c3 hF
    cases hF
    exact ⟨Nat.le_refl _, Nat.le_refl _⟩
theorem b_X0_pigeons_0 {r : Int32} {S' : mSh} {M' : mMm} {n' z' : Nat} {nS zS : Nat} (hV : mV V n0 P) (X : mCx D n0 P p m c cX0_pigeons 8 s args yX0_pigeons.cls meth (some .int)) : ∀ (S : mSh) (M : mMm) (n z : Nat) (x0 : Nat) (x1 : Int32) (H : Heap) (locs : List Loc) (ls : Array Slot), nS ≤ n → zS ≤ z → mHp D n0 S M n s H locs → lv_has ls 8 [(0, .ref x0), (1, .int x1)] → fb_X0_pigeons_0 V S M n z x0 x1 = some (r, S', M', n', z') → W p l e (Rm_X0_pigeons (n' - nS) (z' - zS)) s m args below meth c H locs (n - nS) (z - zS) (MQ below (mQ D n0 (some (.int r)) S' M' n') args s (n' - nS) (z' - zS) (mA n0)) (F0 m 0 ls []) := by
  have hx := X.1.1
  have hb := X.1.2.1
  have hown := X.1.2.2.2.1
  have hts := X.1.2.2.2.2
  intro S M n z x0 x1 H locs ls hn hz hp hl hF
  have hm0 := mn_X0_pigeons_0 hF
  unfold fb_X0_pigeons_0 at hF
  refine lv_iload_n hx hb dX0_pigeons_0 rfl (lv_at hl 1 rfl) ?_
  refine lv_iconst (v := 0) hx hb dX0_pigeons_1 (by decide) ?_
  refine lv_iconst (v := 2) hx hb dX0_pigeons_2 (by decide) ?_
  obtain ⟨v2, e1, hF⟩ := ob_s hF
  refine m_callS (As := [.int x1, .int (0 : Int32), .int (2 : Int32)]) (rest := []) X hp (w_X0_isIn e1) q565 q566 q132 q567 3 rfl ds_X0_isIn ⟨Nat.le_of_ble_eq_true rfl, Nat.le_of_ble_eq_true rfl⟩ hl.1 rfl (Nat.le_of_ble_eq_true rfl) dX0_pigeons_3 ⟨by show _ + 0 ≤ n' - nS; omega, by show _ + 0 ≤ z' - zS; omega⟩ (fun H locs hp => ?_)
  refine lv_if_ne (tgt := 11) hx hb dX0_pigeons_6 (by decide) (fun c3 => ?_) (fun c3 => ?_)
  · have hF := if_n c3 hF
    refine lv_sipush (v := 144) hx hb dX0_pigeons_11 (by decide) ?_
    have hm := (mn_X0_pigeons_16 (V := V)) hF
    refine m_newa X hp 102 (atype := .boolean) rfl (by decide) (fun h => h) q551 (by decide) (by decide) rfl (by show _ ≤ n' - nS; omega) (by show _ ≤ z' - zS; omega) dX0_pigeons_14 (fun H hp => ?_)
    refine W.widen (k := n + 1 - nS) (n := z + (144 : Int32).toNatClampNeg - zS) (by omega) (by omega) ?_
    exact b_X0_pigeons_16 hV X _ _ _ _ _ _ _ _ _ _ (by omega) (by omega) hp (lv_sub hl [0, 1] rfl) hF
  · have hF := if_p c3 hF
    refine lv_iconst (v := -1) hx hb dX0_pigeons_9 (by decide) ?_
    cases hF
    exact m_iret X hp dX0_pigeons_10
def f_X0_pigeons (V : Nat → Nat) (S : mSh) (M : mMm) (n z : Nat) (x0 : Nat) (x1 : Int32) : Option (Int32 × mSh × mMm × Nat × Nat) := (fb_X0_pigeons_0 V S M n z x0 x1)
theorem mn_X0_pigeons {x0 : Nat} {x1 : Int32} {r : Int32} {S' : mSh} {M' : mMm} {n' z' : Nat} {S : mSh} {M : mMm} {n z : Nat} (hF : f_X0_pigeons V S M n z x0 x1 = some (r, S', M', n', z')) : n ≤ n' ∧ z ≤ z' := by
  unfold f_X0_pigeons at hF
  exact mn_X0_pigeons_0 hF
theorem w_X0_pigeons {x0 : Nat} {x1 : Int32} {r : Int32} {S' : mSh} {M' : mMm} {n' z' : Nat} {S : mSh} {M : mMm} {n z : Nat} (hV : mV V n0 P) (hF : f_X0_pigeons V S M n z x0 x1 = some (r, S', M', n', z')) : mCt l D n0 P yX0_pigeons cX0_pigeons 8 (some .int) 4 92 (n' - n) (z' - z) [.ref x0, .int x1] S M n (some (.int r)) S' M' n' := by
  refine m_ofW (by decide) (Nat.le_of_ble_eq_true rfl) (fun p e s m below meth c X hnm hp ls hl => ?_)
  unfold f_X0_pigeons at hF
  refine W.widen (k := n - n) (n := z - z) (by omega) (by omega) ?_
  exact b_X0_pigeons_0 hV X _ _ _ _ _ _ _ _ _ (Nat.le_refl _) (Nat.le_refl _) hp hl hF
end
section
variable {l : Launch} {D : va_G} {n0 : Nat} {P : mP} {V : Nat → Nat} {p : Program} {e : Env} {s : State} {m : MethodId} {args : Array Value} {below : List Frame} {meth : Method} {c : Code}
abbrev Rm_X6_init (mc ms : Nat) : Room := { frames := 4, cells := mc, slots := ms, locals := 120 }
def fb_X6_init_26 (V : Nat → Nat) (S : mSh) (M : mMm) (n z : Nat) (x0 : Nat) (x2 : Int32) (y0 : Nat) (y1 : Nat) : Option (mSh × mMm × Nat × Nat) := ob (wF S M y1 7 2 (.ref y0)) fun M11 => ob (wF S M11 x0 7 0 (.int x2)) fun M13 => some (S, M13, n, z)
theorem mn_X6_init_26 {S' : mSh} {M' : mMm} {n' z' : Nat} : ∀ {S : mSh} {M : mMm} {n z : Nat} {x0 : Nat} {x2 : Int32} {y0 : Nat} {y1 : Nat}, fb_X6_init_26 V S M n z x0 x2 y0 y1 = some (S', M', n', z') → n ≤ n' ∧ z ≤ z' := by
  intro S M n z x0 x2 y0 y1 hF
  unfold fb_X6_init_26 at hF
  obtain ⟨M11, e12, hF⟩ := ob_s hF
  obtain ⟨M13, e14, hF⟩ := ob_s hF
  cases hF
  exact ⟨Nat.le_refl _, Nat.le_refl _⟩
theorem b_X6_init_26 {S' : mSh} {M' : mMm} {n' z' : Nat} {nS zS : Nat} (hV : mV V n0 P) (hnm : meth.name = "<init>") (X : mCx D n0 P p m c cX6_init 3 s args yX6_init.cls meth none) : ∀ (S : mSh) (M : mMm) (n z : Nat) (x0 : Nat) (x2 : Int32) (y0 : Nat) (y1 : Nat) (H : Heap) (locs : List Loc) (ls : Array Slot), nS ≤ n → zS ≤ z → mHp D n0 S M n s H locs → lv_has ls 3 [(0, .ref x0), (2, .int x2)] → fb_X6_init_26 V S M n z x0 x2 y0 y1 = some (S', M', n', z') → W p l e (Rm_X6_init (n' - nS) (z' - zS)) s m args below meth c H locs (n - nS) (z - zS) (MQ below (mQ D n0 none S' M' n') args s (n' - nS) (z' - zS) (mA n0)) (F0 m 26 ls [.ref y0, .ref y1]) := by
  have hx := X.1.1
  have hb := X.1.2.1
  have hown := X.1.2.2.2.1
  have hts := X.1.2.2.2.2
  intro S M n z x0 x2 y0 y1 H locs ls hn hz hp hl hF
  have hm0 := mn_X6_init_26 hF
  unfold fb_X6_init_26 at hF
  obtain ⟨M11, e12, hF⟩ := ob_s hF
  refine m_putWF X hp e12 kX6 (Nat.le_of_ble_eq_true rfl) q587 rfl hnm rfl rfl rfl dX6_init_26 (fun H locs hp => ?_)
  refine lv_aload_n hx hb dX6_init_29 rfl (lv_at hl 0 rfl) ?_
  refine lv_iload_n hx hb dX6_init_30 rfl (lv_at hl 1 rfl) ?_
  obtain ⟨M13, e14, hF⟩ := ob_s hF
  refine m_putWF X hp e14 kX6 (Nat.le_of_ble_eq_true rfl) q585 rfl hnm rfl rfl rfl dX6_init_31 (fun H locs hp => ?_)
  cases hF
  exact m_vret X hp dX6_init_34
def fb_X6_init_22 (V : Nat → Nat) (S : mSh) (M : mMm) (n z : Nat) (x0 : Nat) (x2 : Int32) (y0 : Nat) (y1 : Nat) : Option (mSh × mMm × Nat × Nat) := ob (f_J2_init V S M n z y0) fun ⟨S8, M7, n9, z10⟩ => (fb_X6_init_26 V S8 M7 n9 z10 x0 x2 y0 y1)
theorem mn_X6_init_22 {S' : mSh} {M' : mMm} {n' z' : Nat} : ∀ {S : mSh} {M : mMm} {n z : Nat} {x0 : Nat} {x2 : Int32} {y0 : Nat} {y1 : Nat}, fb_X6_init_22 V S M n z x0 x2 y0 y1 = some (S', M', n', z') → n ≤ n' ∧ z ≤ z' := by
  intro S M n z x0 x2 y0 y1 hF
  unfold fb_X6_init_22 at hF
  obtain ⟨⟨S8, M7, n9, z10⟩, e5, hF⟩ := ob_s hF
  have hc := mn_J2_init e5
  have h9 := (mn_X6_init_26 (V := V)) hF
  exact ⟨by omega, by omega⟩
theorem b_X6_init_22 {S' : mSh} {M' : mMm} {n' z' : Nat} {nS zS : Nat} (hV : mV V n0 P) (hnm : meth.name = "<init>") (X : mCx D n0 P p m c cX6_init 3 s args yX6_init.cls meth none) : ∀ (S : mSh) (M : mMm) (n z : Nat) (x0 : Nat) (x2 : Int32) (y0 : Nat) (y1 : Nat) (H : Heap) (locs : List Loc) (ls : Array Slot), nS ≤ n → zS ≤ z → mHp D n0 S M n s H locs → lv_has ls 3 [(0, .ref x0), (2, .int x2)] → fb_X6_init_22 V S M n z x0 x2 y0 y1 = some (S', M', n', z') → W p l e (Rm_X6_init (n' - nS) (z' - zS)) s m args below meth c H locs (n - nS) (z - zS) (MQ below (mQ D n0 none S' M' n') args s (n' - nS) (z' - zS) (mA n0)) (F0 m 22 ls [.ref y0, .ref y1]) := by
  have hx := X.1.1
  have hb := X.1.2.1
  have hown := X.1.2.2.2.1
  have hts := X.1.2.2.2.2
  intro S M n z x0 x2 y0 y1 H locs ls hn hz hp hl hF
  have hm0 := mn_X6_init_22 hF
  unfold fb_X6_init_22 at hF
  refine lv_dup hx hb dX6_init_22 rfl ?_
  obtain ⟨⟨S8, M7, n9, z10⟩, e5, hF⟩ := ob_s hF
  have hc := mn_J2_init e5
  have hm := (mn_X6_init_26 (V := V)) hF
  refine m_callI (As := []) (rest := [.ref y0, .ref y1]) X hp (w_J2_init hV e5) q584 q223 q138 q224 rfl 0 rfl ds_J2_init ⟨Nat.le_of_ble_eq_true rfl, Nat.le_of_ble_eq_true rfl⟩ hl.1 rfl (Nat.le_of_ble_eq_true rfl) dX6_init_23 ⟨by show _ ≤ n' - nS; omega, by show _ ≤ z' - zS; omega⟩ (fun H locs hp => ?_)
  refine W.widen (k := n9 - nS) (n := z10 - zS) (by omega) (by omega) ?_
  exact b_X6_init_26 hV hnm X _ _ _ _ _ _ _ _ _ _ _ (by omega) (by omega) hp (lv_sub hl [0, 1] rfl) hF
def fb_X6_init_15 (V : Nat → Nat) (S : mSh) (M : mMm) (n z : Nat) (x0 : Nat) (x2 : Int32) (y0 : Nat) (y1 : Nat) : Option (mSh × mMm × Nat × Nat) := ob (wF S M y1 7 1 (.ref y0)) fun M3 => (fb_X6_init_22 V (mS1 S n (15, 0)) (mM1 M3 n fun k => defaultValue (tyJ2 k)) (n + 1) (z + 3) x0 x2 n x0)
theorem mn_X6_init_15 {S' : mSh} {M' : mMm} {n' z' : Nat} : ∀ {S : mSh} {M : mMm} {n z : Nat} {x0 : Nat} {x2 : Int32} {y0 : Nat} {y1 : Nat}, fb_X6_init_15 V S M n z x0 x2 y0 y1 = some (S', M', n', z') → n ≤ n' ∧ z ≤ z' := by
  intro S M n z x0 x2 y0 y1 hF
  unfold fb_X6_init_15 at hF
  obtain ⟨M3, e4, hF⟩ := ob_s hF
  have h9 := (mn_X6_init_22 (V := V)) hF
  exact ⟨by omega, by omega⟩
theorem b_X6_init_15 {S' : mSh} {M' : mMm} {n' z' : Nat} {nS zS : Nat} (hV : mV V n0 P) (hnm : meth.name = "<init>") (X : mCx D n0 P p m c cX6_init 3 s args yX6_init.cls meth none) : ∀ (S : mSh) (M : mMm) (n z : Nat) (x0 : Nat) (x2 : Int32) (y0 : Nat) (y1 : Nat) (H : Heap) (locs : List Loc) (ls : Array Slot), nS ≤ n → zS ≤ z → mHp D n0 S M n s H locs → lv_has ls 3 [(0, .ref x0), (2, .int x2)] → fb_X6_init_15 V S M n z x0 x2 y0 y1 = some (S', M', n', z') → W p l e (Rm_X6_init (n' - nS) (z' - zS)) s m args below meth c H locs (n - nS) (z - zS) (MQ below (mQ D n0 none S' M' n') args s (n' - nS) (z' - zS) (mA n0)) (F0 m 15 ls [.ref y0, .ref y1]) := by
  have hx := X.1.1
  have hb := X.1.2.1
  have hown := X.1.2.2.2.1
  have hts := X.1.2.2.2.2
  intro S M n z x0 x2 y0 y1 H locs ls hn hz hp hl hF
  have hm0 := mn_X6_init_15 hF
  unfold fb_X6_init_15 at hF
  obtain ⟨M3, e4, hF⟩ := ob_s hF
  refine m_putWF X hp e4 kX6 (Nat.le_of_ble_eq_true rfl) q586 rfl hnm rfl rfl rfl dX6_init_15 (fun H locs hp => ?_)
  refine lv_aload_n hx hb dX6_init_18 rfl (lv_at hl 0 rfl) ?_
  have hm := (mn_X6_init_22 (V := V)) hF
  refine m_new X hp kJ2 q583 q221 q138 (by show _ ≤ n' - nS; omega) (by show _ ≤ z' - zS; omega) dX6_init_19 (fun H hp => ?_)
  refine W.widen (k := n + 1 - nS) (n := z + 3 - zS) (by omega) (by omega) ?_
  exact b_X6_init_22 hV hnm X _ _ _ _ _ _ _ _ _ _ _ (by omega) (by omega) hp (lv_sub hl [0, 1] rfl) hF
def fb_X6_init_0 (V : Nat → Nat) (S : mSh) (M : mMm) (n z : Nat) (x0 : Nat) (x1 : Nat) (x2 : Int32) : Option (mSh × mMm × Nat × Nat) := ob (wF S M x0 7 9 (.ref x1)) fun M1 => (fb_X6_init_15 V (mS1 S n (100, (144 : Int32).toNatClampNeg)) (mM1 M1 n fun _ => .int 0) (n + 1) (z + (144 : Int32).toNatClampNeg) x0 x2 n x0)
theorem mn_X6_init_0 {S' : mSh} {M' : mMm} {n' z' : Nat} : ∀ {S : mSh} {M : mMm} {n z : Nat} {x0 : Nat} {x1 : Nat} {x2 : Int32}, fb_X6_init_0 V S M n z x0 x1 x2 = some (S', M', n', z') → n ≤ n' ∧ z ≤ z' := by
  intro S M n z x0 x1 x2 hF
  unfold fb_X6_init_0 at hF
  obtain ⟨M1, e2, hF⟩ := ob_s hF
  have h9 := (mn_X6_init_15 (V := V)) hF
  exact ⟨by omega, by omega⟩
theorem b_X6_init_0 {S' : mSh} {M' : mMm} {n' z' : Nat} {nS zS : Nat} (hV : mV V n0 P) (hnm : meth.name = "<init>") (X : mCx D n0 P p m c cX6_init 3 s args yX6_init.cls meth none) : ∀ (S : mSh) (M : mMm) (n z : Nat) (x0 : Nat) (x1 : Nat) (x2 : Int32) (H : Heap) (locs : List Loc) (ls : Array Slot), nS ≤ n → zS ≤ z → mHp D n0 S M n s H locs → lv_has ls 3 [(0, .ref x0), (1, .ref x1), (2, .int x2)] → fb_X6_init_0 V S M n z x0 x1 x2 = some (S', M', n', z') → W p l e (Rm_X6_init (n' - nS) (z' - zS)) s m args below meth c H locs (n - nS) (z - zS) (MQ below (mQ D n0 none S' M' n') args s (n' - nS) (z' - zS) (mA n0)) (F0 m 0 ls []) := by
  have hx := X.1.1
  have hb := X.1.2.1
  have hown := X.1.2.2.2.1
  have hts := X.1.2.2.2.2
  intro S M n z x0 x1 x2 H locs ls hn hz hp hl hF
  have hm0 := mn_X6_init_0 hF
  unfold fb_X6_init_0 at hF
  refine lv_aload_n hx hb dX6_init_0 rfl (lv_at hl 0 rfl) ?_
  refine lv_aload_n hx hb dX6_init_1 rfl (lv_at hl 1 rfl) ?_
  obtain ⟨M1, e2, hF⟩ := ob_s hF
  refine m_putWF X hp e2 kX6 (Nat.le_of_ble_eq_true rfl) q595 rfl hnm rfl rfl rfl dX6_init_2 (fun H locs hp => ?_)
  refine lv_aload_n hx hb dX6_init_5 rfl (lv_at hl 0 rfl) ?_
  refine m_objInit X q582 q168 q169 hl.1 (Nat.le_of_ble_eq_true rfl) (Nat.le_of_ble_eq_true rfl) dX6_init_6 ?_
  refine lv_aload_n hx hb dX6_init_9 rfl (lv_at hl 0 rfl) ?_
  refine lv_sipush (v := 144) hx hb dX6_init_10 (by decide) ?_
  have hm := (mn_X6_init_15 (V := V)) hF
  refine m_newa X hp 100 (atype := .int) rfl (by decide) (fun h => h) q201 (by decide) (by decide) rfl (by show _ ≤ n' - nS; omega) (by show _ ≤ z' - zS; omega) dX6_init_13 (fun H hp => ?_)
  refine W.widen (k := n + 1 - nS) (n := z + (144 : Int32).toNatClampNeg - zS) (by omega) (by omega) ?_
  exact b_X6_init_15 hV hnm X _ _ _ _ _ _ _ _ _ _ _ (by omega) (by omega) hp (lv_sub hl [0, 2] rfl) hF
def f_X6_init (V : Nat → Nat) (S : mSh) (M : mMm) (n z : Nat) (x0 : Nat) (x1 : Nat) (x2 : Int32) : Option (mSh × mMm × Nat × Nat) := (fb_X6_init_0 V S M n z x0 x1 x2)
theorem mn_X6_init {x0 : Nat} {x1 : Nat} {x2 : Int32} {S' : mSh} {M' : mMm} {n' z' : Nat} {S : mSh} {M : mMm} {n z : Nat} (hF : f_X6_init V S M n z x0 x1 x2 = some (S', M', n', z')) : n ≤ n' ∧ z ≤ z' := by
  unfold f_X6_init at hF
  exact mn_X6_init_0 hF
theorem w_X6_init {x0 : Nat} {x1 : Nat} {x2 : Int32} {S' : mSh} {M' : mMm} {n' z' : Nat} {S : mSh} {M : mMm} {n z : Nat} (hV : mV V n0 P) (hF : f_X6_init V S M n z x0 x1 x2 = some (S', M', n', z')) : mCt l D n0 P yX6_init cX6_init 3 none 4 120 (n' - n) (z' - z) [.ref x0, .ref x1, .int x2] S M n none S' M' n' := by
  refine m_ofW (by decide) (Nat.le_of_ble_eq_true rfl) (fun p e s m below meth c X hnm hp ls hl => ?_)
  unfold f_X6_init at hF
  refine W.widen (k := n - n) (n := z - z) (by omega) (by omega) ?_
  exact b_X6_init_0 hV hnm X _ _ _ _ _ _ _ _ _ _ (Nat.le_refl _) (Nat.le_refl _) hp hl hF
end
section
variable {l : Launch} {D : va_G} {n0 : Nat} {P : mP} {V : Nat → Nat} {p : Program} {e : Env} {s : State} {m : MethodId} {args : Array Value} {below : List Frame} {meth : Method} {c : Code}
abbrev Rm_X6_number (mc ms : Nat) : Room := { frames := 9, cells := mc, slots := ms, locals := 244 }
def fb_X6_number_0 (V : Nat → Nat) (S : mSh) (M : mMm) (n z : Nat) (x0 : Nat) (x1 : Int32) (x2 : Int32) : Option ((Int32 ⊕ Nat) × mSh × mMm × Nat × Nat) := ob (rI S M x0 7 5) fun v1 => (if v1 = (2 : Int32) then ob (rI S M x0 7 6) fun v4 => ob (f_X0_isIn v4 x1 x2) fun v7 => (if v7 = 0 then ob (rI S M x0 7 4) fun v14 => some (.inr n, mSF S n, mMF M n (2 : Int32) v14, n + 1, z + 8) else ob (rI S M x0 7 6) fun v9 => ob (f_X6_next V S M x0) fun M13 => some (.inl v9, S, M13, n, z)) else ob (rI S M x0 7 4) fun v16 => some (.inr n, mSF S n, mMF M n (1 : Int32) v16, n + 1, z + 8))
theorem mn_X6_number_0 {r : Int32 ⊕ Nat} {S' : mSh} {M' : mMm} {n' z' : Nat} : ∀ {S : mSh} {M : mMm} {n z : Nat} {x0 : Nat} {x1 : Int32} {x2 : Int32}, fb_X6_number_0 V S M n z x0 x1 x2 = some (r, S', M', n', z') → n ≤ n' ∧ z ≤ z' := by
  intro S M n z x0 x1 x2 hF
  unfold fb_X6_number_0 at hF
  obtain ⟨v1, e2, hF⟩ := ob_s hF
  rcases Decidable.em (v1 = (2 : Int32)) with c3 | c3
  · have hF := if_p c3 hF
    obtain ⟨v4, e5, hF⟩ := ob_s hF
    obtain ⟨v7, e6, hF⟩ := ob_s hF
    rcases (Decidable.em (v7 = 0)).symm with c8 | c8
    · have hF := if_n c8 hF
      obtain ⟨v9, e10, hF⟩ := ob_s hF
      obtain ⟨M13, e11, hF⟩ := ob_s hF
      cases hF
      exact ⟨Nat.le_refl _, Nat.le_refl _⟩
    · have hF := if_p c8 hF
      obtain ⟨v14, e15, hF⟩ := ob_s hF
      cases hF
      exact ⟨by omega, by omega⟩
  · have hF := if_n c3 hF
    obtain ⟨v16, e17, hF⟩ := ob_s hF
    cases hF
    exact ⟨by omega, by omega⟩
theorem b_X6_number_0 {r : Int32 ⊕ Nat} {S' : mSh} {M' : mMm} {n' z' : Nat} {nS zS : Nat} (hV : mV V n0 P) (hVs : mVs V n0 P) (hs : l.stackTraces = false) (hVx : mVx n0 P) (X : mCx D n0 P p m c cX6_number 4 s args yX6_number.cls meth (some .int)) (hX : ∀ x ∈ c.exceptionTable.toList, False) : ∀ (S : mSh) (M : mMm) (n z : Nat) (x0 : Nat) (x1 : Int32) (x2 : Int32) (H : Heap) (locs : List Loc) (ls : Array Slot), nS ≤ n → zS ≤ z → mHp D n0 S M n s H locs → lv_has ls 4 [(0, .ref x0), (1, .int x1), (2, .int x2)] → fb_X6_number_0 V S M n z x0 x1 x2 = some (r, S', M', n', z') → W p l e (Rm_X6_number (n' - nS) (z' - zS)) s m args below meth c H locs (n - nS) (z - zS) (mMX below D n0 (moI r) S' M' n' args s (n' - nS) (z' - zS)) (F0 m 0 ls []) := by
  have hx := X.1.1
  have hb := X.1.2.1
  have hown := X.1.2.2.2.1
  have hts := X.1.2.2.2.2
  intro S M n z x0 x1 x2 H locs ls hn hz hp hl hF
  have hm0 := mn_X6_number_0 hF
  unfold fb_X6_number_0 at hF
  refine lv_aload_n hx hb dX6_number_0 rfl (lv_at hl 0 rfl) ?_
  obtain ⟨v1, e2, hF⟩ := ob_s hF
  refine m_getI X hp e2 kX6 (Nat.le_of_ble_eq_true rfl) q590 dX6_number_1 ?_
  refine lv_iconst (v := 2) hx hb dX6_number_4 (by decide) ?_
  refine lv_icmp_eq (tgt := 21) hx hb dX6_number_5 (by decide) (fun c3 => ?_) (fun c3 => ?_)
  · have hF := if_p c3 hF
    refine lv_aload_n hx hb dX6_number_21 rfl (lv_at hl 0 rfl) ?_
    obtain ⟨v4, e5, hF⟩ := ob_s hF
    refine m_getI X hp e5 kX6 (Nat.le_of_ble_eq_true rfl) q591 dX6_number_22 ?_
    refine lv_iload_n hx hb dX6_number_25 rfl (lv_at hl 1 rfl) ?_
    refine lv_iload_n hx hb dX6_number_26 rfl (lv_at hl 2 rfl) ?_
    obtain ⟨v7, e6, hF⟩ := ob_s hF
    refine m_callSN (As := [.int v4, .int x1, .int x2]) (rest := []) X hp (w_X0_isIn e6) q633 q566 q132 q567 3 rfl ds_X0_isIn ⟨Nat.le_of_ble_eq_true rfl, Nat.le_of_ble_eq_true rfl⟩ hl.1 rfl (Nat.le_of_ble_eq_true rfl) dX6_number_27 ⟨by show _ + 0 ≤ n' - nS; omega, by show _ + 0 ≤ z' - zS; omega⟩ (fun H locs hp => ?_)
    refine lv_if_ne (tgt := 46) hx hb dX6_number_30 (by decide) (fun c8 => ?_) (fun c8 => ?_)
    · have hF := if_n c8 hF
      refine lv_aload_n hx hb dX6_number_46 rfl (lv_at hl 0 rfl) ?_
      obtain ⟨v9, e10, hF⟩ := ob_s hF
      refine m_getI X hp e10 kX6 (Nat.le_of_ble_eq_true rfl) q591 dX6_number_47 ?_
      refine lv_istore_n (lv' := [(3, .int v9), (0, .ref x0), (1, .int x1), (2, .int x2)]) hx hb dX6_number_50 rfl hl (by decide) rfl (fun ls hl => ?_)
      refine lv_aload_n hx hb dX6_number_51 rfl (lv_at hl 1 rfl) ?_
      obtain ⟨M13, e11, hF⟩ := ob_s hF
      refine m_callV (As := []) (rest := []) X hp (w_X6_next hVs e11) q621 q623 qs5 q148 q624 0 rfl ds_X6_next ⟨Nat.le_of_ble_eq_true rfl, Nat.le_of_ble_eq_true rfl⟩ 7 (T := TX6) (N := 10) rfl (by decide) (rI_s e10).1 hl.1 rfl (Nat.le_of_ble_eq_true rfl) dX6_number_52 ⟨by show _ + 0 ≤ n' - nS; omega, by show _ + 0 ≤ z' - zS; omega⟩ (fun H locs hp => ?_)
      refine lv_iload_n hx hb dX6_number_55 rfl (lv_at hl 0 rfl) ?_
      cases hF
      exact xm_ret (m_iret X hp dX6_number_56)
    · have hF := if_p c8 hF
      obtain ⟨v14, e15, hF⟩ := ob_s hF
      cases hF
      exact xm_throw (rest := []) (kd := 2) X hX hs hVx hp (lv_at hl 0 rfl) hl.1 (by decide) e15 dX6_number_33 dX6_number_36 dX6_number_37 dX6_number_38 dX6_number_39 dX6_number_42 dX6_number_45 (Nat.le_of_ble_eq_true rfl) ⟨Nat.le_of_ble_eq_true rfl, Nat.le_of_ble_eq_true rfl⟩ ⟨by show _ ≤ n + 1 - nS; omega, by show _ ≤ z + 8 - zS; omega⟩ ⟨by omega, by omega⟩
  · have hF := if_n c3 hF
    obtain ⟨v16, e17, hF⟩ := ob_s hF
    cases hF
    exact xm_throw (rest := []) (kd := 1) X hX hs hVx hp (lv_at hl 0 rfl) hl.1 (by decide) e17 dX6_number_8 dX6_number_11 dX6_number_12 dX6_number_13 dX6_number_14 dX6_number_17 dX6_number_20 (Nat.le_of_ble_eq_true rfl) ⟨Nat.le_of_ble_eq_true rfl, Nat.le_of_ble_eq_true rfl⟩ ⟨by show _ ≤ n + 1 - nS; omega, by show _ ≤ z + 8 - zS; omega⟩ ⟨by omega, by omega⟩
def f_X6_number (V : Nat → Nat) (S : mSh) (M : mMm) (n z : Nat) (x0 : Nat) (x1 : Int32) (x2 : Int32) : Option ((Int32 ⊕ Nat) × mSh × mMm × Nat × Nat) := (fb_X6_number_0 V S M n z x0 x1 x2)
theorem mn_X6_number {x0 : Nat} {x1 : Int32} {x2 : Int32} {r : Int32 ⊕ Nat} {S' : mSh} {M' : mMm} {n' z' : Nat} {S : mSh} {M : mMm} {n z : Nat} (hF : f_X6_number V S M n z x0 x1 x2 = some (r, S', M', n', z')) : n ≤ n' ∧ z ≤ z' := by
  unfold f_X6_number at hF
  exact mn_X6_number_0 hF
theorem w_X6_number {x0 : Nat} {x1 : Int32} {x2 : Int32} {r : Int32 ⊕ Nat} {S' : mSh} {M' : mMm} {n' z' : Nat} {S : mSh} {M : mMm} {n z : Nat} (hV : mV V n0 P) (hVs : mVs V n0 P) (hs : l.stackTraces = false) (hVx : mVx n0 P) (hF : f_X6_number V S M n z x0 x1 x2 = some (r, S', M', n', z')) : mXt l D n0 P yX6_number cX6_number 4 (some .int) 9 244 (n' - n) (z' - z) [.ref x0, .int x1, .int x2] S M n (moI r) S' M' n' := by
  refine m_ofX (by decide) (Nat.le_of_ble_eq_true rfl) (fun p e s m below meth c X hX hp ls hl => ?_)
  unfold f_X6_number at hF
  refine W.widen (k := n - n) (n := z - z) (by omega) (by omega) ?_
  exact b_X6_number_0 hV hVs hs hVx X hX _ _ _ _ _ _ _ _ _ _ (Nat.le_refl _) (Nat.le_refl _) hp hl hF
end
section
variable {l : Launch} {D : va_G} {n0 : Nat} {P : mP} {V : Nat → Nat} {p : Program} {e : Env} {s : State} {m : MethodId} {args : Array Value} {below : List Frame} {meth : Method} {c : Code}
abbrev Rm_X6_unit (mc ms : Nat) : Room := { frames := 10, cells := mc, slots := ms, locals := 267 }
def fb_X6_unit_20 (V : Nat → Nat) (S : mSh) (M : mMm) (n z : Nat) (y0 : Int32) (y1 : Nat) (y2 : Nat) : Option ((Nat ⊕ Nat) × mSh × mMm × Nat × Nat) := ob (f_X9_init S M y1 y0) fun M30 => some (.inl y2, S, M30, n, z)
theorem mn_X6_unit_20 {r : Nat ⊕ Nat} {S' : mSh} {M' : mMm} {n' z' : Nat} : ∀ {S : mSh} {M : mMm} {n z : Nat} {y0 : Int32} {y1 : Nat} {y2 : Nat}, fb_X6_unit_20 V S M n z y0 y1 y2 = some (r, S', M', n', z') → n ≤ n' ∧ z ≤ z' := by
  intro S M n z y0 y1 y2 hF
  unfold fb_X6_unit_20 at hF
  obtain ⟨M30, e28, hF⟩ := ob_s hF
  cases hF
  exact ⟨Nat.le_refl _, Nat.le_refl _⟩
theorem b_X6_unit_20 {r : Nat ⊕ Nat} {S' : mSh} {M' : mMm} {n' z' : Nat} {nS zS : Nat} (hV : mV V n0 P) (hVs : mVs V n0 P) (hs : l.stackTraces = false) (hVx : mVx n0 P) (X : mCx D n0 P p m c cX6_unit 2 s args yX6_unit.cls meth (some (.object "WindingSquare$Term"))) (hX : ∀ x ∈ c.exceptionTable.toList, False) : ∀ (S : mSh) (M : mMm) (n z : Nat) (y0 : Int32) (y1 : Nat) (y2 : Nat) (H : Heap) (locs : List Loc) (ls : Array Slot), nS ≤ n → zS ≤ z → mHp D n0 S M n s H locs → lv_has ls 2 [] → fb_X6_unit_20 V S M n z y0 y1 y2 = some (r, S', M', n', z') → W p l e (Rm_X6_unit (n' - nS) (z' - zS)) s m args below meth c H locs (n - nS) (z - zS) (mMX below D n0 (moR r) S' M' n' args s (n' - nS) (z' - zS)) (F0 m 20 ls [.int y0, .ref y1, .ref y2]) := by
  have hx := X.1.1
  have hb := X.1.2.1
  have hown := X.1.2.2.2.1
  have hts := X.1.2.2.2.2
  intro S M n z y0 y1 y2 H locs ls hn hz hp hl hF
  have hm0 := mn_X6_unit_20 hF
  unfold fb_X6_unit_20 at hF
  obtain ⟨M30, e28, hF⟩ := ob_s hF
  refine m_callI (As := [.int y0]) (rest := [.ref y2]) X hp (w_X9_init e28) q829 q830 q156 q831 rfl 1 rfl ds_X9_init ⟨Nat.le_of_ble_eq_true rfl, Nat.le_of_ble_eq_true rfl⟩ hl.1 rfl (Nat.le_of_ble_eq_true rfl) dX6_unit_20 ⟨by show _ + 0 ≤ n' - nS; omega, by show _ + 0 ≤ z' - zS; omega⟩ (fun H locs hp => ?_)
  cases hF
  exact xm_ret (m_aret X hp (Or.inl ⟨_, rfl⟩) dX6_unit_23)
def fb_X6_unit_11 (V : Nat → Nat) (S : mSh) (M : mMm) (n z : Nat) (x0 : Nat) (y0 : Nat) : Option ((Nat ⊕ Nat) × mSh × mMm × Nat × Nat) := gd ((S x0).1 = 7) (ob (f_X6_number V S M n z x0 (0 : Int32) (9999 : Int32)) fun ⟨o25, S22, M21, n23, z24⟩ => xk o25 S22 M21 n23 z24 fun v20 => (fb_X6_unit_20 V S22 M21 n23 z24  v20 y0 y0))
theorem mn_X6_unit_11 {r : Nat ⊕ Nat} {S' : mSh} {M' : mMm} {n' z' : Nat} : ∀ {S : mSh} {M : mMm} {n z : Nat} {x0 : Nat} {y0 : Nat}, fb_X6_unit_11 V S M n z x0 y0 = some (r, S', M', n', z') → n ≤ n' ∧ z ≤ z' := by
  intro S M n z x0 y0 hF
  unfold fb_X6_unit_11 at hF
  obtain ⟨g18, hF⟩ := gd_s hF
  obtain ⟨⟨o25, S22, M21, n23, z24⟩, e19, hF⟩ := ob_s hF
  have hc := mn_X6_number e19
  rcases xk_s hF with ⟨v20, h26, hF⟩ | ⟨q27, h26, hF⟩
  · subst h26
    have h9 := (mn_X6_unit_20 (V := V)) hF
    exact ⟨by omega, by omega⟩
  · subst h26
    cases hF
    exact ⟨by omega, by omega⟩
theorem b_X6_unit_11 {r : Nat ⊕ Nat} {S' : mSh} {M' : mMm} {n' z' : Nat} {nS zS : Nat} (hV : mV V n0 P) (hVs : mVs V n0 P) (hs : l.stackTraces = false) (hVx : mVx n0 P) (X : mCx D n0 P p m c cX6_unit 2 s args yX6_unit.cls meth (some (.object "WindingSquare$Term"))) (hX : ∀ x ∈ c.exceptionTable.toList, False) : ∀ (S : mSh) (M : mMm) (n z : Nat) (x0 : Nat) (y0 : Nat) (H : Heap) (locs : List Loc) (ls : Array Slot), nS ≤ n → zS ≤ z → mHp D n0 S M n s H locs → lv_has ls 2 [(0, .ref x0)] → fb_X6_unit_11 V S M n z x0 y0 = some (r, S', M', n', z') → W p l e (Rm_X6_unit (n' - nS) (z' - zS)) s m args below meth c H locs (n - nS) (z - zS) (mMX below D n0 (moR r) S' M' n' args s (n' - nS) (z' - zS)) (F0 m 11 ls [.ref y0]) := by
  have hx := X.1.1
  have hb := X.1.2.1
  have hown := X.1.2.2.2.1
  have hts := X.1.2.2.2.2
  intro S M n z x0 y0 H locs ls hn hz hp hl hF
  have hm0 := mn_X6_unit_11 hF
  unfold fb_X6_unit_11 at hF
  refine lv_dup hx hb dX6_unit_11 rfl ?_
  refine lv_aload_n hx hb dX6_unit_12 rfl (lv_at hl 0 rfl) ?_
  refine lv_iconst (v := 0) hx hb dX6_unit_13 (by decide) ?_
  refine lv_sipush (v := 9999) hx hb dX6_unit_14 (by decide) ?_
  obtain ⟨g18, hF⟩ := gd_s hF
  obtain ⟨⟨o25, S22, M21, n23, z24⟩, e19, hF⟩ := ob_s hF
  have hc := mn_X6_number e19
  rcases xk_s hF with ⟨v20, h26, hF⟩ | ⟨q27, h26, hF⟩
  · subst h26
    have hm := (mn_X6_unit_20 (V := V)) hF
    refine xm_callV (As := [.int (0 : Int32), .int (9999 : Int32)]) (rest := [.ref y0, .ref y0]) X hp (w_X6_number hV hVs hs hVx e19) q825 q827 qs20 q148 q828 2 rfl ds_X6_number ⟨Nat.le_of_ble_eq_true rfl, Nat.le_of_ble_eq_true rfl⟩ 7 (T := TX6) (N := 10) rfl (by decide) g18 hl.1 rfl (Nat.le_of_ble_eq_true rfl) dX6_unit_17 ⟨by show _ ≤ n' - nS; omega, by show _ ≤ z' - zS; omega⟩ (fun H locs hp => ?_)
    refine W.widen (k := n23 - nS) (n := z24 - zS) (by omega) (by omega) ?_
    exact b_X6_unit_20 hV hVs hs hVx X hX _ _ _ _  _ _ _ _ _ _ (by omega) (by omega) hp (lv_sub hl [] rfl) hF
  · subst h26
    cases hF
    exact xm_callVT (As := [.int (0 : Int32), .int (9999 : Int32)]) (rest := [.ref y0, .ref y0]) X hX hp (w_X6_number hV hVs hs hVx e19) q825 q827 qs20 q148 q828 2 rfl ds_X6_number ⟨Nat.le_of_ble_eq_true rfl, Nat.le_of_ble_eq_true rfl⟩ 7 (T := TX6) (N := 10) rfl (by decide) g18 hl.1 rfl (Nat.le_of_ble_eq_true rfl) dX6_unit_17 ⟨by show _ ≤ n' - nS; omega, by show _ ≤ z' - zS; omega⟩ ⟨by omega, by omega⟩
def fb_X6_unit_69 (V : Nat → Nat) (S : mSh) (M : mMm) (n z : Nat) (x1 : Int32) (y0 : Nat) : Option ((Nat ⊕ Nat) × mSh × mMm × Nat × Nat) := ob (f_X10_init S M y0 x1) fun M33 => some (.inl y0, S, M33, n, z)
theorem mn_X6_unit_69 {r : Nat ⊕ Nat} {S' : mSh} {M' : mMm} {n' z' : Nat} : ∀ {S : mSh} {M : mMm} {n z : Nat} {x1 : Int32} {y0 : Nat}, fb_X6_unit_69 V S M n z x1 y0 = some (r, S', M', n', z') → n ≤ n' ∧ z ≤ z' := by
  intro S M n z x1 y0 hF
  unfold fb_X6_unit_69 at hF
  obtain ⟨M33, e31, hF⟩ := ob_s hF
  cases hF
  exact ⟨Nat.le_refl _, Nat.le_refl _⟩
theorem b_X6_unit_69 {r : Nat ⊕ Nat} {S' : mSh} {M' : mMm} {n' z' : Nat} {nS zS : Nat} (hV : mV V n0 P) (hVs : mVs V n0 P) (hs : l.stackTraces = false) (hVx : mVx n0 P) (X : mCx D n0 P p m c cX6_unit 2 s args yX6_unit.cls meth (some (.object "WindingSquare$Term"))) (hX : ∀ x ∈ c.exceptionTable.toList, False) : ∀ (S : mSh) (M : mMm) (n z : Nat) (x1 : Int32) (y0 : Nat) (H : Heap) (locs : List Loc) (ls : Array Slot), nS ≤ n → zS ≤ z → mHp D n0 S M n s H locs → lv_has ls 2 [(1, .int x1)] → fb_X6_unit_69 V S M n z x1 y0 = some (r, S', M', n', z') → W p l e (Rm_X6_unit (n' - nS) (z' - zS)) s m args below meth c H locs (n - nS) (z - zS) (mMX below D n0 (moR r) S' M' n' args s (n' - nS) (z' - zS)) (F0 m 69 ls [.ref y0]) := by
  have hx := X.1.1
  have hb := X.1.2.1
  have hown := X.1.2.2.2.1
  have hts := X.1.2.2.2.2
  intro S M n z x1 y0 H locs ls hn hz hp hl hF
  have hm0 := mn_X6_unit_69 hF
  unfold fb_X6_unit_69 at hF
  refine lv_dup hx hb dX6_unit_69 rfl ?_
  refine lv_iload_n hx hb dX6_unit_70 rfl (lv_at hl 0 rfl) ?_
  obtain ⟨M33, e31, hF⟩ := ob_s hF
  refine m_callI (As := [.int x1]) (rest := [.ref y0]) X hp (w_X10_init e31) q842 q843 q157 q844 rfl 1 rfl ds_X10_init ⟨Nat.le_of_ble_eq_true rfl, Nat.le_of_ble_eq_true rfl⟩ hl.1 rfl (Nat.le_of_ble_eq_true rfl) dX6_unit_71 ⟨by show _ + 0 ≤ n' - nS; omega, by show _ + 0 ≤ z' - zS; omega⟩ (fun H locs hp => ?_)
  cases hF
  exact xm_ret (m_aret X hp (Or.inl ⟨_, rfl⟩) dX6_unit_74)
def fb_X6_unit_0 (V : Nat → Nat) (S : mSh) (M : mMm) (n z : Nat) (x0 : Nat) : Option ((Nat ⊕ Nat) × mSh × mMm × Nat × Nat) := ob (rI S M x0 7 5) fun v1 => (if v1 = (2 : Int32) then (fb_X6_unit_11 V (mS1 S n (9, 0)) (mM1 M n fun k => defaultValue (tyX9 k)) (n + 1) (z + 1) x0 n) else ob (rI S M x0 7 5) fun v4 => ob (f_X0_isIn v4 (180 : Int32) (189 : Int32)) fun v7 => (if v7 = 0 then ob (rI S M x0 7 4) fun v16 => some (.inr n, mSF S n, mMF M n (1 : Int32) v16, n + 1, z + 8) else ob (rI S M x0 7 5) fun v9 => nm ((v9 - (180 : Int32))) fun v11 => ob (f_X6_next V S M x0) fun M15 => (fb_X6_unit_69 V (mS1 S n (10, 0)) (mM1 M15 n fun k => defaultValue (tyX10 k)) (n + 1) (z + 1) v11 n)))
theorem mn_X6_unit_0 {r : Nat ⊕ Nat} {S' : mSh} {M' : mMm} {n' z' : Nat} : ∀ {S : mSh} {M : mMm} {n z : Nat} {x0 : Nat}, fb_X6_unit_0 V S M n z x0 = some (r, S', M', n', z') → n ≤ n' ∧ z ≤ z' := by
  intro S M n z x0 hF
  unfold fb_X6_unit_0 at hF
  obtain ⟨v1, e2, hF⟩ := ob_s hF
  rcases (Decidable.em (v1 = (2 : Int32))).symm with c3 | c3
  · have hF := if_n c3 hF
    obtain ⟨v4, e5, hF⟩ := ob_s hF
    obtain ⟨v7, e6, hF⟩ := ob_s hF
    rcases (Decidable.em (v7 = 0)).symm with c8 | c8
    · have hF := if_n c8 hF
      obtain ⟨v9, e10, hF⟩ := ob_s hF
      have hF := nm_s hF rfl
      obtain ⟨M15, e13, hF⟩ := ob_s hF
      have h9 := (mn_X6_unit_69 (V := V)) hF
      exact ⟨by omega, by omega⟩
    · have hF := if_p c8 hF
      obtain ⟨v16, e17, hF⟩ := ob_s hF
      cases hF
      exact ⟨by omega, by omega⟩
  · have hF := if_p c3 hF
    have h9 := (mn_X6_unit_11 (V := V)) hF
    exact ⟨by omega, by omega⟩
theorem b_X6_unit_0 {r : Nat ⊕ Nat} {S' : mSh} {M' : mMm} {n' z' : Nat} {nS zS : Nat} (hV : mV V n0 P) (hVs : mVs V n0 P) (hs : l.stackTraces = false) (hVx : mVx n0 P) (X : mCx D n0 P p m c cX6_unit 2 s args yX6_unit.cls meth (some (.object "WindingSquare$Term"))) (hX : ∀ x ∈ c.exceptionTable.toList, False) : ∀ (S : mSh) (M : mMm) (n z : Nat) (x0 : Nat) (H : Heap) (locs : List Loc) (ls : Array Slot), nS ≤ n → zS ≤ z → mHp D n0 S M n s H locs → lv_has ls 2 [(0, .ref x0)] → fb_X6_unit_0 V S M n z x0 = some (r, S', M', n', z') → W p l e (Rm_X6_unit (n' - nS) (z' - zS)) s m args below meth c H locs (n - nS) (z - zS) (mMX below D n0 (moR r) S' M' n' args s (n' - nS) (z' - zS)) (F0 m 0 ls []) := by
  have hx := X.1.1
  have hb := X.1.2.1
  have hown := X.1.2.2.2.1
  have hts := X.1.2.2.2.2
  intro S M n z x0 H locs ls hn hz hp hl hF
  have hm0 := mn_X6_unit_0 hF
  unfold fb_X6_unit_0 at hF
  refine lv_aload_n hx hb dX6_unit_0 rfl (lv_at hl 0 rfl) ?_
  obtain ⟨v1, e2, hF⟩ := ob_s hF
  refine m_getI X hp e2 kX6 (Nat.le_of_ble_eq_true rfl) q590 dX6_unit_1 ?_
  refine lv_iconst (v := 2) hx hb dX6_unit_4 (by decide) ?_
  refine lv_icmp_ne (tgt := 24) hx hb dX6_unit_5 (by decide) (fun c3 => ?_) (fun c3 => ?_)
  · have hF := if_n c3 hF
    refine lv_aload_n hx hb dX6_unit_24 rfl (lv_at hl 0 rfl) ?_
    obtain ⟨v4, e5, hF⟩ := ob_s hF
    refine m_getI X hp e5 kX6 (Nat.le_of_ble_eq_true rfl) q590 dX6_unit_25 ?_
    refine lv_sipush (v := 180) hx hb dX6_unit_28 (by decide) ?_
    refine lv_sipush (v := 189) hx hb dX6_unit_31 (by decide) ?_
    obtain ⟨v7, e6, hF⟩ := ob_s hF
    refine m_callSN (As := [.int v4, .int (180 : Int32), .int (189 : Int32)]) (rest := []) X hp (w_X0_isIn e6) q633 q566 q132 q567 3 rfl ds_X0_isIn ⟨Nat.le_of_ble_eq_true rfl, Nat.le_of_ble_eq_true rfl⟩ hl.1 rfl (Nat.le_of_ble_eq_true rfl) dX6_unit_34 ⟨by show _ + 0 ≤ n' - nS; omega, by show _ + 0 ≤ z' - zS; omega⟩ (fun H locs hp => ?_)
    refine lv_if_ne (tgt := 53) hx hb dX6_unit_37 (by decide) (fun c8 => ?_) (fun c8 => ?_)
    · have hF := if_n c8 hF
      refine lv_aload_n hx hb dX6_unit_53 rfl (lv_at hl 0 rfl) ?_
      obtain ⟨v9, e10, hF⟩ := ob_s hF
      refine m_getI X hp e10 kX6 (Nat.le_of_ble_eq_true rfl) q590 dX6_unit_54 ?_
      refine lv_sipush (v := 180) hx hb dX6_unit_57 (by decide) ?_
      refine lv_isub hx hb dX6_unit_60 ?_
      refine lv_topi (fun v11 ev12 => ?_)
      have hF := nm_s hF ev12
      refine lv_istore_n (lv' := [(1, .int v11), (0, .ref x0)]) hx hb dX6_unit_61 rfl hl (by decide) rfl (fun ls hl => ?_)
      refine lv_aload_n hx hb dX6_unit_62 rfl (lv_at hl 1 rfl) ?_
      obtain ⟨M15, e13, hF⟩ := ob_s hF
      refine m_callV (As := []) (rest := []) X hp (w_X6_next hVs e13) q621 q623 qs5 q148 q624 0 rfl ds_X6_next ⟨Nat.le_of_ble_eq_true rfl, Nat.le_of_ble_eq_true rfl⟩ 7 (T := TX6) (N := 10) rfl (by decide) (rI_s e10).1 hl.1 rfl (Nat.le_of_ble_eq_true rfl) dX6_unit_63 ⟨by show _ + 0 ≤ n' - nS; omega, by show _ + 0 ≤ z' - zS; omega⟩ (fun H locs hp => ?_)
      have hm := (mn_X6_unit_69 (V := V)) hF
      refine m_new X hp kX10 q840 q841 q157 (by show _ ≤ n' - nS; omega) (by show _ ≤ z' - zS; omega) dX6_unit_66 (fun H hp => ?_)
      refine W.widen (k := n + 1 - nS) (n := z + 1 - zS) (by omega) (by omega) ?_
      exact b_X6_unit_69 hV hVs hs hVx X hX _ _ _ _ _ _ _ _ _ (by omega) (by omega) hp (lv_sub hl [0] rfl) hF
    · have hF := if_p c8 hF
      obtain ⟨v16, e17, hF⟩ := ob_s hF
      cases hF
      exact xm_throw (rest := []) (kd := 1) X hX hs hVx hp (lv_at hl 0 rfl) hl.1 (by decide) e17 dX6_unit_40 dX6_unit_43 dX6_unit_44 dX6_unit_45 dX6_unit_46 dX6_unit_49 dX6_unit_52 (Nat.le_of_ble_eq_true rfl) ⟨Nat.le_of_ble_eq_true rfl, Nat.le_of_ble_eq_true rfl⟩ ⟨by show _ ≤ n + 1 - nS; omega, by show _ ≤ z + 8 - zS; omega⟩ ⟨by omega, by omega⟩
  · have hF := if_p c3 hF
    have hm := (mn_X6_unit_11 (V := V)) hF
    refine m_new X hp kX9 q823 q824 q156 (by show _ ≤ n' - nS; omega) (by show _ ≤ z' - zS; omega) dX6_unit_8 (fun H hp => ?_)
    refine W.widen (k := n + 1 - nS) (n := z + 1 - zS) (by omega) (by omega) ?_
    exact b_X6_unit_11 hV hVs hs hVx X hX _ _ _ _ _ _ _ _ _ (by omega) (by omega) hp (lv_sub hl [0] rfl) hF
def f_X6_unit (V : Nat → Nat) (S : mSh) (M : mMm) (n z : Nat) (x0 : Nat) : Option ((Nat ⊕ Nat) × mSh × mMm × Nat × Nat) := (fb_X6_unit_0 V S M n z x0)
theorem mn_X6_unit {x0 : Nat} {r : Nat ⊕ Nat} {S' : mSh} {M' : mMm} {n' z' : Nat} {S : mSh} {M : mMm} {n z : Nat} (hF : f_X6_unit V S M n z x0 = some (r, S', M', n', z')) : n ≤ n' ∧ z ≤ z' := by
  unfold f_X6_unit at hF
  exact mn_X6_unit_0 hF
theorem w_X6_unit {x0 : Nat} {r : Nat ⊕ Nat} {S' : mSh} {M' : mMm} {n' z' : Nat} {S : mSh} {M : mMm} {n z : Nat} (hV : mV V n0 P) (hVs : mVs V n0 P) (hs : l.stackTraces = false) (hVx : mVx n0 P) (hF : f_X6_unit V S M n z x0 = some (r, S', M', n', z')) : mXt l D n0 P yX6_unit cX6_unit 2 (some (.object "WindingSquare$Term")) 10 267 (n' - n) (z' - z) [.ref x0] S M n (moR r) S' M' n' := by
  refine m_ofX (by decide) (Nat.le_of_ble_eq_true rfl) (fun p e s m below meth c X hX hp ls hl => ?_)
  unfold f_X6_unit at hF
  refine W.widen (k := n - n) (n := z - z) (by omega) (by omega) ?_
  exact b_X6_unit_0 hV hVs hs hVx X hX _ _ _ _ _ _ _ _ (Nat.le_refl _) (Nat.le_refl _) hp hl hF
end
section
variable {l : Launch} {D : va_G} {n0 : Nat} {P : mP} {V : Nat → Nat} {p : Program} {e : Env} {s : State} {m : MethodId} {args : Array Value} {below : List Frame} {meth : Method} {c : Code}
abbrev Rm_X6_product (mc ms : Nat) : Room := { frames := 11, cells := mc, slots := ms, locals := 288 }
def fb_X6_product_66 (V : Nat → Nat) (k5 : mSh → mMm → Nat → Nat → Nat → Nat → Option ((Nat ⊕ Nat) × mSh × mMm × Nat × Nat)) (S : mSh) (M : mMm) (n z : Nat) (x0 : Nat) (y0 : Nat) (y1 : Int32) (y2 : Nat) (y3 : Nat) (y4 : Nat) : Option ((Nat ⊕ Nat) × mSh × mMm × Nat × Nat) := ob (f_X11_init S M y3 y2 y1 y0) fun M48 => (k5 S M48 n z x0 y4)
theorem mn_X6_product_66 {r : Nat ⊕ Nat} {S' : mSh} {M' : mMm} {n' z' : Nat} (k5 : mSh → mMm → Nat → Nat → Nat → Nat → Option ((Nat ⊕ Nat) × mSh × mMm × Nat × Nat)) (hmk5 : ∀ {S : mSh} {M : mMm} {n z : Nat} {x0 : Nat} {x1 : Nat}, k5 S M n z x0 x1 = some (r, S', M', n', z') → n ≤ n' ∧ z ≤ z') : ∀ {S : mSh} {M : mMm} {n z : Nat} {x0 : Nat} {y0 : Nat} {y1 : Int32} {y2 : Nat} {y3 : Nat} {y4 : Nat}, fb_X6_product_66 V k5 S M n z x0 y0 y1 y2 y3 y4 = some (r, S', M', n', z') → n ≤ n' ∧ z ≤ z' := by
  intro S M n z x0 y0 y1 y2 y3 y4 hF
  unfold fb_X6_product_66 at hF
  obtain ⟨M48, e46, hF⟩ := ob_s hF
  have h9 := hmk5 hF
  exact ⟨by omega, by omega⟩
theorem b_X6_product_66 {r : Nat ⊕ Nat} {S' : mSh} {M' : mMm} {n' z' : Nat} {nS zS : Nat} (hV : mV V n0 P) (hVs : mVs V n0 P) (hs : l.stackTraces = false) (hVx : mVx n0 P) (X : mCx D n0 P p m c cX6_product 3 s args yX6_product.cls meth (some (.object "WindingSquare$Term"))) (hX : ∀ x ∈ c.exceptionTable.toList, False) (k5 : mSh → mMm → Nat → Nat → Nat → Nat → Option ((Nat ⊕ Nat) × mSh × mMm × Nat × Nat)) (hmk5 : ∀ {S : mSh} {M : mMm} {n z : Nat} {x0 : Nat} {x1 : Nat}, k5 S M n z x0 x1 = some (r, S', M', n', z') → n ≤ n' ∧ z ≤ z') (hk5 : ∀ (S : mSh) (M : mMm) (n z : Nat) (x0 : Nat) (x1 : Nat) (H : Heap) (locs : List Loc) (ls : Array Slot), nS ≤ n → zS ≤ z → mHp D n0 S M n s H locs → lv_has ls 3 [(0, .ref x0), (1, .ref x1)] → k5 S M n z x0 x1 = some (r, S', M', n', z') → W p l e (Rm_X6_product (n' - nS) (z' - zS)) s m args below meth c H locs (n - nS) (z - zS) (mMX below D n0 (moR r) S' M' n' args s (n' - nS) (z' - zS)) (F0 m 5 ls [])) : ∀ (S : mSh) (M : mMm) (n z : Nat) (x0 : Nat) (y0 : Nat) (y1 : Int32) (y2 : Nat) (y3 : Nat) (y4 : Nat) (H : Heap) (locs : List Loc) (ls : Array Slot), nS ≤ n → zS ≤ z → mHp D n0 S M n s H locs → lv_has ls 3 [(0, .ref x0)] → fb_X6_product_66 V k5 S M n z x0 y0 y1 y2 y3 y4 = some (r, S', M', n', z') → W p l e (Rm_X6_product (n' - nS) (z' - zS)) s m args below meth c H locs (n - nS) (z - zS) (mMX below D n0 (moR r) S' M' n' args s (n' - nS) (z' - zS)) (F0 m 66 ls [.ref y0, .int y1, .ref y2, .ref y3, .ref y4]) := by
  have hx := X.1.1
  have hb := X.1.2.1
  have hown := X.1.2.2.2.1
  have hts := X.1.2.2.2.2
  intro S M n z x0 y0 y1 y2 y3 y4 H locs ls hn hz hp hl hF
  have hm0 := mn_X6_product_66 _ hmk5 hF
  unfold fb_X6_product_66 at hF
  obtain ⟨M48, e46, hF⟩ := ob_s hF
  refine m_callI (As := [.ref y2, .int y1, .ref y0]) (rest := [.ref y4]) X hp (w_X11_init e46) q852 q853 q158 q854 rfl 3 rfl ds_X11_init ⟨Nat.le_of_ble_eq_true rfl, Nat.le_of_ble_eq_true rfl⟩ hl.1 rfl (Nat.le_of_ble_eq_true rfl) dX6_product_66 ⟨by show _ + 0 ≤ n' - nS; omega, by show _ + 0 ≤ z' - zS; omega⟩ (fun H locs hp => ?_)
  refine lv_astore_n (lv' := [(1, .ref y4), (0, .ref x0)]) hx hb dX6_product_69 rfl hl (by decide) rfl (fun ls hl => ?_)
  refine lv_goto (tgt := 5) hx hb dX6_product_70 (by decide) ?_
  exact hk5 _ _ _ _ _ _ _ _ _ (by omega) (by omega) hp (lv_sub hl [1, 0] rfl) hF
def fb_X6_product_56 (V : Nat → Nat) (k5 : mSh → mMm → Nat → Nat → Nat → Nat → Option ((Nat ⊕ Nat) × mSh × mMm × Nat × Nat)) (S : mSh) (M : mMm) (n z : Nat) (x0 : Nat) (y0 : Int32) (y1 : Nat) (y2 : Nat) (y3 : Int32) (y4 : Nat) (y5 : Nat) (y6 : Nat) : Option ((Nat ⊕ Nat) × mSh × mMm × Nat × Nat) := ob (f_X9_init S M y1 y0) fun M45 => (fb_X6_product_66 V k5 S M45 n z x0 y2 y3 y4 y5 y6)
theorem mn_X6_product_56 {r : Nat ⊕ Nat} {S' : mSh} {M' : mMm} {n' z' : Nat} (k5 : mSh → mMm → Nat → Nat → Nat → Nat → Option ((Nat ⊕ Nat) × mSh × mMm × Nat × Nat)) (hmk5 : ∀ {S : mSh} {M : mMm} {n z : Nat} {x0 : Nat} {x1 : Nat}, k5 S M n z x0 x1 = some (r, S', M', n', z') → n ≤ n' ∧ z ≤ z') : ∀ {S : mSh} {M : mMm} {n z : Nat} {x0 : Nat} {y0 : Int32} {y1 : Nat} {y2 : Nat} {y3 : Int32} {y4 : Nat} {y5 : Nat} {y6 : Nat}, fb_X6_product_56 V k5 S M n z x0 y0 y1 y2 y3 y4 y5 y6 = some (r, S', M', n', z') → n ≤ n' ∧ z ≤ z' := by
  intro S M n z x0 y0 y1 y2 y3 y4 y5 y6 hF
  unfold fb_X6_product_56 at hF
  obtain ⟨M45, e43, hF⟩ := ob_s hF
  have h9 := (mn_X6_product_66 (V := V) k5 hmk5) hF
  exact ⟨by omega, by omega⟩
theorem b_X6_product_56 {r : Nat ⊕ Nat} {S' : mSh} {M' : mMm} {n' z' : Nat} {nS zS : Nat} (hV : mV V n0 P) (hVs : mVs V n0 P) (hs : l.stackTraces = false) (hVx : mVx n0 P) (X : mCx D n0 P p m c cX6_product 3 s args yX6_product.cls meth (some (.object "WindingSquare$Term"))) (hX : ∀ x ∈ c.exceptionTable.toList, False) (k5 : mSh → mMm → Nat → Nat → Nat → Nat → Option ((Nat ⊕ Nat) × mSh × mMm × Nat × Nat)) (hmk5 : ∀ {S : mSh} {M : mMm} {n z : Nat} {x0 : Nat} {x1 : Nat}, k5 S M n z x0 x1 = some (r, S', M', n', z') → n ≤ n' ∧ z ≤ z') (hk5 : ∀ (S : mSh) (M : mMm) (n z : Nat) (x0 : Nat) (x1 : Nat) (H : Heap) (locs : List Loc) (ls : Array Slot), nS ≤ n → zS ≤ z → mHp D n0 S M n s H locs → lv_has ls 3 [(0, .ref x0), (1, .ref x1)] → k5 S M n z x0 x1 = some (r, S', M', n', z') → W p l e (Rm_X6_product (n' - nS) (z' - zS)) s m args below meth c H locs (n - nS) (z - zS) (mMX below D n0 (moR r) S' M' n' args s (n' - nS) (z' - zS)) (F0 m 5 ls [])) : ∀ (S : mSh) (M : mMm) (n z : Nat) (x0 : Nat) (y0 : Int32) (y1 : Nat) (y2 : Nat) (y3 : Int32) (y4 : Nat) (y5 : Nat) (y6 : Nat) (H : Heap) (locs : List Loc) (ls : Array Slot), nS ≤ n → zS ≤ z → mHp D n0 S M n s H locs → lv_has ls 3 [(0, .ref x0)] → fb_X6_product_56 V k5 S M n z x0 y0 y1 y2 y3 y4 y5 y6 = some (r, S', M', n', z') → W p l e (Rm_X6_product (n' - nS) (z' - zS)) s m args below meth c H locs (n - nS) (z - zS) (mMX below D n0 (moR r) S' M' n' args s (n' - nS) (z' - zS)) (F0 m 56 ls [.int y0, .ref y1, .ref y2, .int y3, .ref y4, .ref y5, .ref y6]) := by
  have hx := X.1.1
  have hb := X.1.2.1
  have hown := X.1.2.2.2.1
  have hts := X.1.2.2.2.2
  intro S M n z x0 y0 y1 y2 y3 y4 y5 y6 H locs ls hn hz hp hl hF
  have hm0 := mn_X6_product_56 _ hmk5 hF
  unfold fb_X6_product_56 at hF
  obtain ⟨M45, e43, hF⟩ := ob_s hF
  refine m_callI (As := [.int y0]) (rest := [.ref y2, .int y3, .ref y4, .ref y5, .ref y6]) X hp (w_X9_init e43) q829 q830 q156 q831 rfl 1 rfl ds_X9_init ⟨Nat.le_of_ble_eq_true rfl, Nat.le_of_ble_eq_true rfl⟩ hl.1 rfl (Nat.le_of_ble_eq_true rfl) dX6_product_56 ⟨by show _ + 0 ≤ n' - nS; omega, by show _ + 0 ≤ z' - zS; omega⟩ (fun H locs hp => ?_)
  refine lv_goto (tgt := 66) hx hb dX6_product_59 (by decide) ?_
  exact b_X6_product_66 hV hVs hs hVx X hX k5 hmk5 hk5 _ _ _ _ _ _ _ _ _ _ _ _ _ (by omega) (by omega) hp (lv_sub hl [0] rfl) hF
def fb_X6_product_47 (V : Nat → Nat) (k5 : mSh → mMm → Nat → Nat → Nat → Nat → Option ((Nat ⊕ Nat) × mSh × mMm × Nat × Nat)) (S : mSh) (M : mMm) (n z : Nat) (x0 : Nat) (y0 : Nat) (y1 : Int32) (y2 : Nat) (y3 : Nat) (y4 : Nat) : Option ((Nat ⊕ Nat) × mSh × mMm × Nat × Nat) := gd ((S x0).1 = 7) (ob (f_X6_number V S M n z x0 (1 : Int32) (9999 : Int32)) fun ⟨o40, S37, M36, n38, z39⟩ => xk o40 S37 M36 n38 z39 fun v35 => (fb_X6_product_56 V k5 S37 M36 n38 z39 x0 v35 y0 y0 y1 y2 y3 y4))
theorem mn_X6_product_47 {r : Nat ⊕ Nat} {S' : mSh} {M' : mMm} {n' z' : Nat} (k5 : mSh → mMm → Nat → Nat → Nat → Nat → Option ((Nat ⊕ Nat) × mSh × mMm × Nat × Nat)) (hmk5 : ∀ {S : mSh} {M : mMm} {n z : Nat} {x0 : Nat} {x1 : Nat}, k5 S M n z x0 x1 = some (r, S', M', n', z') → n ≤ n' ∧ z ≤ z') : ∀ {S : mSh} {M : mMm} {n z : Nat} {x0 : Nat} {y0 : Nat} {y1 : Int32} {y2 : Nat} {y3 : Nat} {y4 : Nat}, fb_X6_product_47 V k5 S M n z x0 y0 y1 y2 y3 y4 = some (r, S', M', n', z') → n ≤ n' ∧ z ≤ z' := by
  intro S M n z x0 y0 y1 y2 y3 y4 hF
  unfold fb_X6_product_47 at hF
  obtain ⟨g33, hF⟩ := gd_s hF
  obtain ⟨⟨o40, S37, M36, n38, z39⟩, e34, hF⟩ := ob_s hF
  have hc := mn_X6_number e34
  rcases xk_s hF with ⟨v35, h41, hF⟩ | ⟨q42, h41, hF⟩
  · subst h41
    have h9 := (mn_X6_product_56 (V := V) k5 hmk5) hF
    exact ⟨by omega, by omega⟩
  · subst h41
    cases hF
    exact ⟨by omega, by omega⟩
theorem b_X6_product_47 {r : Nat ⊕ Nat} {S' : mSh} {M' : mMm} {n' z' : Nat} {nS zS : Nat} (hV : mV V n0 P) (hVs : mVs V n0 P) (hs : l.stackTraces = false) (hVx : mVx n0 P) (X : mCx D n0 P p m c cX6_product 3 s args yX6_product.cls meth (some (.object "WindingSquare$Term"))) (hX : ∀ x ∈ c.exceptionTable.toList, False) (k5 : mSh → mMm → Nat → Nat → Nat → Nat → Option ((Nat ⊕ Nat) × mSh × mMm × Nat × Nat)) (hmk5 : ∀ {S : mSh} {M : mMm} {n z : Nat} {x0 : Nat} {x1 : Nat}, k5 S M n z x0 x1 = some (r, S', M', n', z') → n ≤ n' ∧ z ≤ z') (hk5 : ∀ (S : mSh) (M : mMm) (n z : Nat) (x0 : Nat) (x1 : Nat) (H : Heap) (locs : List Loc) (ls : Array Slot), nS ≤ n → zS ≤ z → mHp D n0 S M n s H locs → lv_has ls 3 [(0, .ref x0), (1, .ref x1)] → k5 S M n z x0 x1 = some (r, S', M', n', z') → W p l e (Rm_X6_product (n' - nS) (z' - zS)) s m args below meth c H locs (n - nS) (z - zS) (mMX below D n0 (moR r) S' M' n' args s (n' - nS) (z' - zS)) (F0 m 5 ls [])) : ∀ (S : mSh) (M : mMm) (n z : Nat) (x0 : Nat) (y0 : Nat) (y1 : Int32) (y2 : Nat) (y3 : Nat) (y4 : Nat) (H : Heap) (locs : List Loc) (ls : Array Slot), nS ≤ n → zS ≤ z → mHp D n0 S M n s H locs → lv_has ls 3 [(0, .ref x0)] → fb_X6_product_47 V k5 S M n z x0 y0 y1 y2 y3 y4 = some (r, S', M', n', z') → W p l e (Rm_X6_product (n' - nS) (z' - zS)) s m args below meth c H locs (n - nS) (z - zS) (mMX below D n0 (moR r) S' M' n' args s (n' - nS) (z' - zS)) (F0 m 47 ls [.ref y0, .int y1, .ref y2, .ref y3, .ref y4]) := by
  have hx := X.1.1
  have hb := X.1.2.1
  have hown := X.1.2.2.2.1
  have hts := X.1.2.2.2.2
  intro S M n z x0 y0 y1 y2 y3 y4 H locs ls hn hz hp hl hF
  have hm0 := mn_X6_product_47 _ hmk5 hF
  unfold fb_X6_product_47 at hF
  refine lv_dup hx hb dX6_product_47 rfl ?_
  refine lv_aload_n hx hb dX6_product_48 rfl (lv_at hl 0 rfl) ?_
  refine lv_iconst (v := 1) hx hb dX6_product_49 (by decide) ?_
  refine lv_sipush (v := 9999) hx hb dX6_product_50 (by decide) ?_
  obtain ⟨g33, hF⟩ := gd_s hF
  obtain ⟨⟨o40, S37, M36, n38, z39⟩, e34, hF⟩ := ob_s hF
  have hc := mn_X6_number e34
  rcases xk_s hF with ⟨v35, h41, hF⟩ | ⟨q42, h41, hF⟩
  · subst h41
    have hm := (mn_X6_product_56 (V := V) k5 hmk5) hF
    refine xm_callV (As := [.int (1 : Int32), .int (9999 : Int32)]) (rest := [.ref y0, .ref y0, .int y1, .ref y2, .ref y3, .ref y4]) X hp (w_X6_number hV hVs hs hVx e34) q825 q827 qs20 q148 q828 2 rfl ds_X6_number ⟨Nat.le_of_ble_eq_true rfl, Nat.le_of_ble_eq_true rfl⟩ 7 (T := TX6) (N := 10) rfl (by decide) g33 hl.1 rfl (Nat.le_of_ble_eq_true rfl) dX6_product_53 ⟨by show _ ≤ n' - nS; omega, by show _ ≤ z' - zS; omega⟩ (fun H locs hp => ?_)
    refine W.widen (k := n38 - nS) (n := z39 - zS) (by omega) (by omega) ?_
    exact b_X6_product_56 hV hVs hs hVx X hX k5 hmk5 hk5 _ _ _ _ _ _ _ _ _ _ _ _ _ _ _ (by omega) (by omega) hp (lv_sub hl [0] rfl) hF
  · subst h41
    cases hF
    exact xm_callVT (As := [.int (1 : Int32), .int (9999 : Int32)]) (rest := [.ref y0, .ref y0, .int y1, .ref y2, .ref y3, .ref y4]) X hX hp (w_X6_number hV hVs hs hVx e34) q825 q827 qs20 q148 q828 2 rfl ds_X6_number ⟨Nat.le_of_ble_eq_true rfl, Nat.le_of_ble_eq_true rfl⟩ 7 (T := TX6) (N := 10) rfl (by decide) g33 hl.1 rfl (Nat.le_of_ble_eq_true rfl) dX6_product_53 ⟨by show _ ≤ n' - nS; omega, by show _ ≤ z' - zS; omega⟩ ⟨by omega, by omega⟩
def fb_X6_product_35 (V : Nat → Nat) (k5 : mSh → mMm → Nat → Nat → Nat → Nat → Option ((Nat ⊕ Nat) × mSh × mMm × Nat × Nat)) (S : mSh) (M : mMm) (n z : Nat) (x0 : Nat) (x1 : Nat) (x2 : Int32) (y0 : Nat) : Option ((Nat ⊕ Nat) × mSh × mMm × Nat × Nat) := (if x2 = (47 : Int32) then (fb_X6_product_47 V k5 (mS1 S n (9, 0)) (mM1 M n fun k => defaultValue (tyX9 k)) (n + 1) (z + 1) x0 n x2 x1 y0 y0) else gd ((S x0).1 = 7) (ob (f_X6_unit V S M n z x0) fun ⟨o30, S27, M26, n28, z29⟩ => xk o30 S27 M26 n28 z29 fun v25 => (fb_X6_product_66 V k5 S27 M26 n28 z29 x0 v25 x2 x1 y0 y0)))
theorem mn_X6_product_35 {r : Nat ⊕ Nat} {S' : mSh} {M' : mMm} {n' z' : Nat} (k5 : mSh → mMm → Nat → Nat → Nat → Nat → Option ((Nat ⊕ Nat) × mSh × mMm × Nat × Nat)) (hmk5 : ∀ {S : mSh} {M : mMm} {n z : Nat} {x0 : Nat} {x1 : Nat}, k5 S M n z x0 x1 = some (r, S', M', n', z') → n ≤ n' ∧ z ≤ z') : ∀ {S : mSh} {M : mMm} {n z : Nat} {x0 : Nat} {x1 : Nat} {x2 : Int32} {y0 : Nat}, fb_X6_product_35 V k5 S M n z x0 x1 x2 y0 = some (r, S', M', n', z') → n ≤ n' ∧ z ≤ z' := by
  intro S M n z x0 x1 x2 y0 hF
  unfold fb_X6_product_35 at hF
  rcases (Decidable.em (x2 = (47 : Int32))).symm with c22 | c22
  · have hF := if_n c22 hF
    obtain ⟨g23, hF⟩ := gd_s hF
    obtain ⟨⟨o30, S27, M26, n28, z29⟩, e24, hF⟩ := ob_s hF
    have hc := mn_X6_unit e24
    rcases xk_s hF with ⟨v25, h31, hF⟩ | ⟨q32, h31, hF⟩
    · subst h31
      have h9 := (mn_X6_product_66 (V := V) k5 hmk5) hF
      exact ⟨by omega, by omega⟩
    · subst h31
      cases hF
      exact ⟨by omega, by omega⟩
  · have hF := if_p c22 hF
    have h9 := (mn_X6_product_47 (V := V) k5 hmk5) hF
    exact ⟨by omega, by omega⟩
theorem b_X6_product_35 {r : Nat ⊕ Nat} {S' : mSh} {M' : mMm} {n' z' : Nat} {nS zS : Nat} (hV : mV V n0 P) (hVs : mVs V n0 P) (hs : l.stackTraces = false) (hVx : mVx n0 P) (X : mCx D n0 P p m c cX6_product 3 s args yX6_product.cls meth (some (.object "WindingSquare$Term"))) (hX : ∀ x ∈ c.exceptionTable.toList, False) (k5 : mSh → mMm → Nat → Nat → Nat → Nat → Option ((Nat ⊕ Nat) × mSh × mMm × Nat × Nat)) (hmk5 : ∀ {S : mSh} {M : mMm} {n z : Nat} {x0 : Nat} {x1 : Nat}, k5 S M n z x0 x1 = some (r, S', M', n', z') → n ≤ n' ∧ z ≤ z') (hk5 : ∀ (S : mSh) (M : mMm) (n z : Nat) (x0 : Nat) (x1 : Nat) (H : Heap) (locs : List Loc) (ls : Array Slot), nS ≤ n → zS ≤ z → mHp D n0 S M n s H locs → lv_has ls 3 [(0, .ref x0), (1, .ref x1)] → k5 S M n z x0 x1 = some (r, S', M', n', z') → W p l e (Rm_X6_product (n' - nS) (z' - zS)) s m args below meth c H locs (n - nS) (z - zS) (mMX below D n0 (moR r) S' M' n' args s (n' - nS) (z' - zS)) (F0 m 5 ls [])) : ∀ (S : mSh) (M : mMm) (n z : Nat) (x0 : Nat) (x1 : Nat) (x2 : Int32) (y0 : Nat) (H : Heap) (locs : List Loc) (ls : Array Slot), nS ≤ n → zS ≤ z → mHp D n0 S M n s H locs → lv_has ls 3 [(0, .ref x0), (1, .ref x1), (2, .int x2)] → fb_X6_product_35 V k5 S M n z x0 x1 x2 y0 = some (r, S', M', n', z') → W p l e (Rm_X6_product (n' - nS) (z' - zS)) s m args below meth c H locs (n - nS) (z - zS) (mMX below D n0 (moR r) S' M' n' args s (n' - nS) (z' - zS)) (F0 m 35 ls [.ref y0]) := by
  have hx := X.1.1
  have hb := X.1.2.1
  have hown := X.1.2.2.2.1
  have hts := X.1.2.2.2.2
  intro S M n z x0 x1 x2 y0 H locs ls hn hz hp hl hF
  have hm0 := mn_X6_product_35 _ hmk5 hF
  unfold fb_X6_product_35 at hF
  refine lv_dup hx hb dX6_product_35 rfl ?_
  refine lv_aload_n hx hb dX6_product_36 rfl (lv_at hl 1 rfl) ?_
  refine lv_iload_n hx hb dX6_product_37 rfl (lv_at hl 2 rfl) ?_
  refine lv_iload_n hx hb dX6_product_38 rfl (lv_at hl 2 rfl) ?_
  refine lv_bipush (v := 47) hx hb dX6_product_39 (by decide) ?_
  refine lv_icmp_ne (tgt := 62) hx hb dX6_product_41 (by decide) (fun c22 => ?_) (fun c22 => ?_)
  · have hF := if_n c22 hF
    refine lv_aload_n hx hb dX6_product_62 rfl (lv_at hl 0 rfl) ?_
    obtain ⟨g23, hF⟩ := gd_s hF
    obtain ⟨⟨o30, S27, M26, n28, z29⟩, e24, hF⟩ := ob_s hF
    have hc := mn_X6_unit e24
    rcases xk_s hF with ⟨v25, h31, hF⟩ | ⟨q32, h31, hF⟩
    · subst h31
      have hm := (mn_X6_product_66 (V := V) k5 hmk5) hF
      refine xm_callV (As := []) (rest := [.int x2, .ref x1, .ref y0, .ref y0]) X hp (w_X6_unit hV hVs hs hVx e24) q819 q821 qs19 q148 q822 0 rfl ds_X6_unit ⟨Nat.le_of_ble_eq_true rfl, Nat.le_of_ble_eq_true rfl⟩ 7 (T := TX6) (N := 10) rfl (by decide) g23 hl.1 rfl (Nat.le_of_ble_eq_true rfl) dX6_product_63 ⟨by show _ ≤ n' - nS; omega, by show _ ≤ z' - zS; omega⟩ (fun H locs hp => ?_)
      refine W.widen (k := n28 - nS) (n := z29 - zS) (by omega) (by omega) ?_
      exact b_X6_product_66 hV hVs hs hVx X hX k5 hmk5 hk5 _ _ _ _ _ _ _ _ _ _ _ _ _ (by omega) (by omega) hp (lv_sub hl [0] rfl) hF
    · subst h31
      cases hF
      exact xm_callVT (As := []) (rest := [.int x2, .ref x1, .ref y0, .ref y0]) X hX hp (w_X6_unit hV hVs hs hVx e24) q819 q821 qs19 q148 q822 0 rfl ds_X6_unit ⟨Nat.le_of_ble_eq_true rfl, Nat.le_of_ble_eq_true rfl⟩ 7 (T := TX6) (N := 10) rfl (by decide) g23 hl.1 rfl (Nat.le_of_ble_eq_true rfl) dX6_product_63 ⟨by show _ ≤ n' - nS; omega, by show _ ≤ z' - zS; omega⟩ ⟨by omega, by omega⟩
  · have hF := if_p c22 hF
    have hm := (mn_X6_product_47 (V := V) k5 hmk5) hF
    refine m_new X hp kX9 q823 q824 q156 (by show _ ≤ n' - nS; omega) (by show _ ≤ z' - zS; omega) dX6_product_44 (fun H hp => ?_)
    refine W.widen (k := n + 1 - nS) (n := z + 1 - zS) (by omega) (by omega) ?_
    exact b_X6_product_47 hV hVs hs hVx X hX k5 hmk5 hk5 _ _ _ _ _ _ _ _ _ _ _ _ _ (by omega) (by omega) hp (lv_sub hl [0] rfl) hF
def fb_X6_product_23 (V : Nat → Nat) (k5 : mSh → mMm → Nat → Nat → Nat → Nat → Option ((Nat ⊕ Nat) × mSh × mMm × Nat × Nat)) (S : mSh) (M : mMm) (n z : Nat) (x0 : Nat) (x1 : Nat) : Option ((Nat ⊕ Nat) × mSh × mMm × Nat × Nat) := ob (rI S M x0 7 5) fun v17 => ob (f_X6_next V S M x0) fun M21 => (fb_X6_product_35 V k5 (mS1 S n (11, 0)) (mM1 M21 n fun k => defaultValue (tyX11 k)) (n + 1) (z + 3) x0 x1 v17 n)
theorem mn_X6_product_23 {r : Nat ⊕ Nat} {S' : mSh} {M' : mMm} {n' z' : Nat} (k5 : mSh → mMm → Nat → Nat → Nat → Nat → Option ((Nat ⊕ Nat) × mSh × mMm × Nat × Nat)) (hmk5 : ∀ {S : mSh} {M : mMm} {n z : Nat} {x0 : Nat} {x1 : Nat}, k5 S M n z x0 x1 = some (r, S', M', n', z') → n ≤ n' ∧ z ≤ z') : ∀ {S : mSh} {M : mMm} {n z : Nat} {x0 : Nat} {x1 : Nat}, fb_X6_product_23 V k5 S M n z x0 x1 = some (r, S', M', n', z') → n ≤ n' ∧ z ≤ z' := by
  intro S M n z x0 x1 hF
  unfold fb_X6_product_23 at hF
  obtain ⟨v17, e18, hF⟩ := ob_s hF
  obtain ⟨M21, e19, hF⟩ := ob_s hF
  have h9 := (mn_X6_product_35 (V := V) k5 hmk5) hF
  exact ⟨by omega, by omega⟩
theorem b_X6_product_23 {r : Nat ⊕ Nat} {S' : mSh} {M' : mMm} {n' z' : Nat} {nS zS : Nat} (hV : mV V n0 P) (hVs : mVs V n0 P) (hs : l.stackTraces = false) (hVx : mVx n0 P) (X : mCx D n0 P p m c cX6_product 3 s args yX6_product.cls meth (some (.object "WindingSquare$Term"))) (hX : ∀ x ∈ c.exceptionTable.toList, False) (k5 : mSh → mMm → Nat → Nat → Nat → Nat → Option ((Nat ⊕ Nat) × mSh × mMm × Nat × Nat)) (hmk5 : ∀ {S : mSh} {M : mMm} {n z : Nat} {x0 : Nat} {x1 : Nat}, k5 S M n z x0 x1 = some (r, S', M', n', z') → n ≤ n' ∧ z ≤ z') (hk5 : ∀ (S : mSh) (M : mMm) (n z : Nat) (x0 : Nat) (x1 : Nat) (H : Heap) (locs : List Loc) (ls : Array Slot), nS ≤ n → zS ≤ z → mHp D n0 S M n s H locs → lv_has ls 3 [(0, .ref x0), (1, .ref x1)] → k5 S M n z x0 x1 = some (r, S', M', n', z') → W p l e (Rm_X6_product (n' - nS) (z' - zS)) s m args below meth c H locs (n - nS) (z - zS) (mMX below D n0 (moR r) S' M' n' args s (n' - nS) (z' - zS)) (F0 m 5 ls [])) : ∀ (S : mSh) (M : mMm) (n z : Nat) (x0 : Nat) (x1 : Nat) (H : Heap) (locs : List Loc) (ls : Array Slot), nS ≤ n → zS ≤ z → mHp D n0 S M n s H locs → lv_has ls 3 [(0, .ref x0), (1, .ref x1)] → fb_X6_product_23 V k5 S M n z x0 x1 = some (r, S', M', n', z') → W p l e (Rm_X6_product (n' - nS) (z' - zS)) s m args below meth c H locs (n - nS) (z - zS) (mMX below D n0 (moR r) S' M' n' args s (n' - nS) (z' - zS)) (F0 m 23 ls []) := by
  have hx := X.1.1
  have hb := X.1.2.1
  have hown := X.1.2.2.2.1
  have hts := X.1.2.2.2.2
  intro S M n z x0 x1 H locs ls hn hz hp hl hF
  have hm0 := mn_X6_product_23 _ hmk5 hF
  unfold fb_X6_product_23 at hF
  refine lv_aload_n hx hb dX6_product_23 rfl (lv_at hl 0 rfl) ?_
  obtain ⟨v17, e18, hF⟩ := ob_s hF
  refine m_getI X hp e18 kX6 (Nat.le_of_ble_eq_true rfl) q590 dX6_product_24 ?_
  refine lv_istore_n (lv' := [(2, .int v17), (0, .ref x0), (1, .ref x1)]) hx hb dX6_product_27 rfl hl (by decide) rfl (fun ls hl => ?_)
  refine lv_aload_n hx hb dX6_product_28 rfl (lv_at hl 1 rfl) ?_
  obtain ⟨M21, e19, hF⟩ := ob_s hF
  refine m_callV (As := []) (rest := []) X hp (w_X6_next hVs e19) q621 q623 qs5 q148 q624 0 rfl ds_X6_next ⟨Nat.le_of_ble_eq_true rfl, Nat.le_of_ble_eq_true rfl⟩ 7 (T := TX6) (N := 10) rfl (by decide) (rI_s e18).1 hl.1 rfl (Nat.le_of_ble_eq_true rfl) dX6_product_29 ⟨by show _ + 0 ≤ n' - nS; omega, by show _ + 0 ≤ z' - zS; omega⟩ (fun H locs hp => ?_)
  have hm := (mn_X6_product_35 (V := V) k5 hmk5) hF
  refine m_new X hp kX11 q850 q851 q158 (by show _ ≤ n' - nS; omega) (by show _ ≤ z' - zS; omega) dX6_product_32 (fun H hp => ?_)
  refine W.widen (k := n + 1 - nS) (n := z + 3 - zS) (by omega) (by omega) ?_
  exact b_X6_product_35 hV hVs hs hVx X hX k5 hmk5 hk5 _ _ _ _ _ _ _ _ _ _ _ (by omega) (by omega) hp (lv_sub hl [1, 2, 0] rfl) hF
def fb_X6_product_5 (V : Nat → Nat) : Nat → mSh → mMm → Nat → Nat → Nat → Nat → Option ((Nat ⊕ Nat) × mSh × mMm × Nat × Nat)
  | 0, _, _, _, _, _, _ => none
  | t + 1, S, M, n, z, x0, x1 => ob (rI S M x0 7 5) fun v11 => (if v11 = (42 : Int32) then (fb_X6_product_23 V (fb_X6_product_5 V t) S M n z x0 x1) else ob (rI S M x0 7 5) fun v14 => (if v14 = (47 : Int32) then (fb_X6_product_23 V (fb_X6_product_5 V t) S M n z x0 x1) else some (.inl x1, S, M, n, z)))
theorem mn_X6_product_5 {r : Nat ⊕ Nat} {S' : mSh} {M' : mMm} {n' z' : Nat} : ∀ {t : Nat} {S : mSh} {M : mMm} {n z : Nat} {x0 : Nat} {x1 : Nat}, fb_X6_product_5 V t S M n z x0 x1 = some (r, S', M', n', z') → n ≤ n' ∧ z ≤ z' := by
  intro t
  induction t with
  | zero =>
    intro S M n z x0 x1 hF
    have hF : none = some (r, S', M', n', z') := hF
    cases hF
  | succ t ihm =>
    intro S M n z x0 x1 hF
    rw [fb_X6_product_5] at hF
    obtain ⟨v11, e12, hF⟩ := ob_s hF
    rcases Decidable.em (v11 = (42 : Int32)) with c13 | c13
    · have hF := if_p c13 hF
      have h9 := (mn_X6_product_23 (V := V) (fb_X6_product_5 V t) @ihm) hF
      exact ⟨by omega, by omega⟩
    · have hF := if_n c13 hF
      obtain ⟨v14, e15, hF⟩ := ob_s hF
      rcases (Decidable.em (v14 = (47 : Int32))).symm with c16 | c16
      · have hF := if_n c16 hF
        cases hF
        exact ⟨Nat.le_refl _, Nat.le_refl _⟩
      · have hF := if_p c16 hF
        have h9 := (mn_X6_product_23 (V := V) (fb_X6_product_5 V t) @ihm) hF
        exact ⟨by omega, by omega⟩
theorem b_X6_product_5 {r : Nat ⊕ Nat} {S' : mSh} {M' : mMm} {n' z' : Nat} {nS zS : Nat} (hV : mV V n0 P) (hVs : mVs V n0 P) (hs : l.stackTraces = false) (hVx : mVx n0 P) (X : mCx D n0 P p m c cX6_product 3 s args yX6_product.cls meth (some (.object "WindingSquare$Term"))) (hX : ∀ x ∈ c.exceptionTable.toList, False) : ∀ t : Nat, ∀ (S : mSh) (M : mMm) (n z : Nat) (x0 : Nat) (x1 : Nat) (H : Heap) (locs : List Loc) (ls : Array Slot), nS ≤ n → zS ≤ z → mHp D n0 S M n s H locs → lv_has ls 3 [(0, .ref x0), (1, .ref x1)] → fb_X6_product_5 V t S M n z x0 x1 = some (r, S', M', n', z') → W p l e (Rm_X6_product (n' - nS) (z' - zS)) s m args below meth c H locs (n - nS) (z - zS) (mMX below D n0 (moR r) S' M' n' args s (n' - nS) (z' - zS)) (F0 m 5 ls []) := by
  have hx := X.1.1
  have hb := X.1.2.1
  have hown := X.1.2.2.2.1
  have hts := X.1.2.2.2.2
  intro t
  induction t with
  | zero =>
    intro S M n z x0 x1 H locs ls hn hz hp hl hF
    have hF : none = some (r, S', M', n', z') := hF
    cases hF
  | succ t ih =>
    intro S M n z x0 x1 H locs ls hn hz hp hl hF
    have ihm := @mn_X6_product_5 V r S' M' n' z' t
    have hm0 := mn_X6_product_5 hF
    rw [fb_X6_product_5] at hF
    refine lv_aload_n hx hb dX6_product_5 rfl (lv_at hl 0 rfl) ?_
    obtain ⟨v11, e12, hF⟩ := ob_s hF
    refine m_getI X hp e12 kX6 (Nat.le_of_ble_eq_true rfl) q590 dX6_product_6 ?_
    refine lv_bipush (v := 42) hx hb dX6_product_9 (by decide) ?_
    refine lv_icmp_eq (tgt := 23) hx hb dX6_product_11 (by decide) (fun c13 => ?_) (fun c13 => ?_)
    · have hF := if_p c13 hF
      exact b_X6_product_23 hV hVs hs hVx X hX (fb_X6_product_5 V t) @ihm ih _ _ _ _ _ _ _ _ _ (by omega) (by omega) hp (lv_sub hl [0, 1] rfl) hF
    · have hF := if_n c13 hF
      refine lv_aload_n hx hb dX6_product_14 rfl (lv_at hl 0 rfl) ?_
      obtain ⟨v14, e15, hF⟩ := ob_s hF
      refine m_getI X hp e15 kX6 (Nat.le_of_ble_eq_true rfl) q590 dX6_product_15 ?_
      refine lv_bipush (v := 47) hx hb dX6_product_18 (by decide) ?_
      refine lv_icmp_ne (tgt := 73) hx hb dX6_product_20 (by decide) (fun c16 => ?_) (fun c16 => ?_)
      · have hF := if_n c16 hF
        refine lv_aload_n hx hb dX6_product_73 rfl (lv_at hl 1 rfl) ?_
        cases hF
        exact xm_ret (m_aret X hp (Or.inl ⟨_, rfl⟩) dX6_product_74)
      · have hF := if_p c16 hF
        exact b_X6_product_23 hV hVs hs hVx X hX (fb_X6_product_5 V t) @ihm ih _ _ _ _ _ _ _ _ _ (by omega) (by omega) hp (lv_sub hl [0, 1] rfl) hF
def fb_X6_product_4 (V : Nat → Nat) (S : mSh) (M : mMm) (n z : Nat) (x0 : Nat) (y0 : Nat) : Option ((Nat ⊕ Nat) × mSh × mMm × Nat × Nat) := (fb_X6_product_5 V FU S M n z x0 y0)
theorem mn_X6_product_4 {r : Nat ⊕ Nat} {S' : mSh} {M' : mMm} {n' z' : Nat} : ∀ {S : mSh} {M : mMm} {n z : Nat} {x0 : Nat} {y0 : Nat}, fb_X6_product_4 V S M n z x0 y0 = some (r, S', M', n', z') → n ≤ n' ∧ z ≤ z' := by
  intro S M n z x0 y0 hF
  unfold fb_X6_product_4 at hF
  have h9 := (mn_X6_product_5 (V := V)) hF
  exact ⟨by omega, by omega⟩
theorem b_X6_product_4 {r : Nat ⊕ Nat} {S' : mSh} {M' : mMm} {n' z' : Nat} {nS zS : Nat} (hV : mV V n0 P) (hVs : mVs V n0 P) (hs : l.stackTraces = false) (hVx : mVx n0 P) (X : mCx D n0 P p m c cX6_product 3 s args yX6_product.cls meth (some (.object "WindingSquare$Term"))) (hX : ∀ x ∈ c.exceptionTable.toList, False) : ∀ (S : mSh) (M : mMm) (n z : Nat) (x0 : Nat) (y0 : Nat) (H : Heap) (locs : List Loc) (ls : Array Slot), nS ≤ n → zS ≤ z → mHp D n0 S M n s H locs → lv_has ls 3 [(0, .ref x0)] → fb_X6_product_4 V S M n z x0 y0 = some (r, S', M', n', z') → W p l e (Rm_X6_product (n' - nS) (z' - zS)) s m args below meth c H locs (n - nS) (z - zS) (mMX below D n0 (moR r) S' M' n' args s (n' - nS) (z' - zS)) (F0 m 4 ls [.ref y0]) := by
  have hx := X.1.1
  have hb := X.1.2.1
  have hown := X.1.2.2.2.1
  have hts := X.1.2.2.2.2
  intro S M n z x0 y0 H locs ls hn hz hp hl hF
  have hm0 := mn_X6_product_4 hF
  unfold fb_X6_product_4 at hF
  refine lv_astore_n (lv' := [(1, .ref y0), (0, .ref x0)]) hx hb dX6_product_4 rfl hl (by decide) rfl (fun ls hl => ?_)
  exact b_X6_product_5 hV hVs hs hVx X hX _ _ _ _ _ _ _ _ _ _ (by omega) (by omega) hp (lv_sub hl [1, 0] rfl) hF
def fb_X6_product_0 (V : Nat → Nat) (S : mSh) (M : mMm) (n z : Nat) (x0 : Nat) : Option ((Nat ⊕ Nat) × mSh × mMm × Nat × Nat) := gd ((S x0).1 = 7) (ob (f_X6_unit V S M n z x0) fun ⟨o8, S5, M4, n6, z7⟩ => xk o8 S5 M4 n6 z7 fun v3 => (fb_X6_product_4 V S5 M4 n6 z7 x0 v3))
theorem mn_X6_product_0 {r : Nat ⊕ Nat} {S' : mSh} {M' : mMm} {n' z' : Nat} : ∀ {S : mSh} {M : mMm} {n z : Nat} {x0 : Nat}, fb_X6_product_0 V S M n z x0 = some (r, S', M', n', z') → n ≤ n' ∧ z ≤ z' := by
  intro S M n z x0 hF
  unfold fb_X6_product_0 at hF
  obtain ⟨g1, hF⟩ := gd_s hF
  obtain ⟨⟨o8, S5, M4, n6, z7⟩, e2, hF⟩ := ob_s hF
  have hc := mn_X6_unit e2
  rcases xk_s hF with ⟨v3, h9, hF⟩ | ⟨q10, h9, hF⟩
  · subst h9
    have h9 := (mn_X6_product_4 (V := V)) hF
    exact ⟨by omega, by omega⟩
  · subst h9
    cases hF
    exact ⟨by omega, by omega⟩
theorem b_X6_product_0 {r : Nat ⊕ Nat} {S' : mSh} {M' : mMm} {n' z' : Nat} {nS zS : Nat} (hV : mV V n0 P) (hVs : mVs V n0 P) (hs : l.stackTraces = false) (hVx : mVx n0 P) (X : mCx D n0 P p m c cX6_product 3 s args yX6_product.cls meth (some (.object "WindingSquare$Term"))) (hX : ∀ x ∈ c.exceptionTable.toList, False) : ∀ (S : mSh) (M : mMm) (n z : Nat) (x0 : Nat) (H : Heap) (locs : List Loc) (ls : Array Slot), nS ≤ n → zS ≤ z → mHp D n0 S M n s H locs → lv_has ls 3 [(0, .ref x0)] → fb_X6_product_0 V S M n z x0 = some (r, S', M', n', z') → W p l e (Rm_X6_product (n' - nS) (z' - zS)) s m args below meth c H locs (n - nS) (z - zS) (mMX below D n0 (moR r) S' M' n' args s (n' - nS) (z' - zS)) (F0 m 0 ls []) := by
  have hx := X.1.1
  have hb := X.1.2.1
  have hown := X.1.2.2.2.1
  have hts := X.1.2.2.2.2
  intro S M n z x0 H locs ls hn hz hp hl hF
  have hm0 := mn_X6_product_0 hF
  unfold fb_X6_product_0 at hF
  refine lv_aload_n hx hb dX6_product_0 rfl (lv_at hl 0 rfl) ?_
  obtain ⟨g1, hF⟩ := gd_s hF
  obtain ⟨⟨o8, S5, M4, n6, z7⟩, e2, hF⟩ := ob_s hF
  have hc := mn_X6_unit e2
  rcases xk_s hF with ⟨v3, h9, hF⟩ | ⟨q10, h9, hF⟩
  · subst h9
    have hm := (mn_X6_product_4 (V := V)) hF
    refine xm_callV (As := []) (rest := []) X hp (w_X6_unit hV hVs hs hVx e2) q819 q821 qs19 q148 q822 0 rfl ds_X6_unit ⟨Nat.le_of_ble_eq_true rfl, Nat.le_of_ble_eq_true rfl⟩ 7 (T := TX6) (N := 10) rfl (by decide) g1 hl.1 rfl (Nat.le_of_ble_eq_true rfl) dX6_product_1 ⟨by show _ ≤ n' - nS; omega, by show _ ≤ z' - zS; omega⟩ (fun H locs hp => ?_)
    refine W.widen (k := n6 - nS) (n := z7 - zS) (by omega) (by omega) ?_
    exact b_X6_product_4 hV hVs hs hVx X hX _ _ _ _ _ _ _ _ _ (by omega) (by omega) hp (lv_sub hl [0] rfl) hF
  · subst h9
    cases hF
    exact xm_callVT (As := []) (rest := []) X hX hp (w_X6_unit hV hVs hs hVx e2) q819 q821 qs19 q148 q822 0 rfl ds_X6_unit ⟨Nat.le_of_ble_eq_true rfl, Nat.le_of_ble_eq_true rfl⟩ 7 (T := TX6) (N := 10) rfl (by decide) g1 hl.1 rfl (Nat.le_of_ble_eq_true rfl) dX6_product_1 ⟨by show _ ≤ n' - nS; omega, by show _ ≤ z' - zS; omega⟩ ⟨by omega, by omega⟩
def f_X6_product (V : Nat → Nat) (S : mSh) (M : mMm) (n z : Nat) (x0 : Nat) : Option ((Nat ⊕ Nat) × mSh × mMm × Nat × Nat) := (fb_X6_product_0 V S M n z x0)
theorem mn_X6_product {x0 : Nat} {r : Nat ⊕ Nat} {S' : mSh} {M' : mMm} {n' z' : Nat} {S : mSh} {M : mMm} {n z : Nat} (hF : f_X6_product V S M n z x0 = some (r, S', M', n', z')) : n ≤ n' ∧ z ≤ z' := by
  unfold f_X6_product at hF
  exact mn_X6_product_0 hF
theorem w_X6_product {x0 : Nat} {r : Nat ⊕ Nat} {S' : mSh} {M' : mMm} {n' z' : Nat} {S : mSh} {M : mMm} {n z : Nat} (hV : mV V n0 P) (hVs : mVs V n0 P) (hs : l.stackTraces = false) (hVx : mVx n0 P) (hF : f_X6_product V S M n z x0 = some (r, S', M', n', z')) : mXt l D n0 P yX6_product cX6_product 3 (some (.object "WindingSquare$Term")) 11 288 (n' - n) (z' - z) [.ref x0] S M n (moR r) S' M' n' := by
  refine m_ofX (by decide) (Nat.le_of_ble_eq_true rfl) (fun p e s m below meth c X hX hp ls hl => ?_)
  unfold f_X6_product at hF
  refine W.widen (k := n - n) (n := z - z) (by omega) (by omega) ?_
  exact b_X6_product_0 hV hVs hs hVx X hX _ _ _ _ _ _ _ _ (Nat.le_refl _) (Nat.le_refl _) hp hl hF
end
