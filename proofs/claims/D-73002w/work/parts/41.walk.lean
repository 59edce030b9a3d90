set_option maxRecDepth 100000
section
variable {l : Launch} {D : va_G} {n0 : Nat} {P : mP} {V : Nat → Nat} {p : Program} {e : Env} {s : State} {m : MethodId} {args : Array Value} {below : List Frame} {meth : Method} {c : Code}
abbrev Rm_X6_sum (mc ms : Nat) : Room := { frames := 12, cells := mc, slots := ms, locals := 310 }
def fb_X6_sum_42 (V : Nat → Nat) (k5 : mSh → mMm → Nat → Nat → Nat → Nat → Option ((Nat ⊕ Nat) × mSh × mMm × Nat × Nat)) (S : mSh) (M : mMm) (n z : Nat) (x0 : Nat) (y0 : Nat) (y1 : Int32) (y2 : Nat) (y3 : Nat) (y4 : Nat) : Option ((Nat ⊕ Nat) × mSh × mMm × Nat × Nat) := ob (f_X11_init S M y3 y2 y1 y0) fun M34 => (k5 S M34 n z x0 y4)
theorem mn_X6_sum_42 {r : Nat ⊕ Nat} {S' : mSh} {M' : mMm} {n' z' : Nat} (k5 : mSh → mMm → Nat → Nat → Nat → Nat → Option ((Nat ⊕ Nat) × mSh × mMm × Nat × Nat)) (hmk5 : ∀ {S : mSh} {M : mMm} {n z : Nat} {x0 : Nat} {x1 : Nat}, k5 S M n z x0 x1 = some (r, S', M', n', z') → n ≤ n' ∧ z ≤ z') : ∀ {S : mSh} {M : mMm} {n z : Nat} {x0 : Nat} {y0 : Nat} {y1 : Int32} {y2 : Nat} {y3 : Nat} {y4 : Nat}, fb_X6_sum_42 V k5 S M n z x0 y0 y1 y2 y3 y4 = some (r, S', M', n', z') → n ≤ n' ∧ z ≤ z' := by
  intro S M n z x0 y0 y1 y2 y3 y4 hF
  unfold fb_X6_sum_42 at hF
  obtain ⟨M34, e32, hF⟩ := ob_s hF
  have h9 := hmk5 hF
  exact ⟨by omega, by omega⟩
theorem b_X6_sum_42 {r : Nat ⊕ Nat} {S' : mSh} {M' : mMm} {n' z' : Nat} {nS zS : Nat} (hV : mV V n0 P) (hVs : mVs V n0 P) (hs : l.stackTraces = false) (hVx : mVx n0 P) (X : mCx D n0 P p m c cX6_sum 3 s args yX6_sum.cls meth (some (.object "WindingSquare$Term"))) (hX : ∀ x ∈ c.exceptionTable.toList, False) (k5 : mSh → mMm → Nat → Nat → Nat → Nat → Option ((Nat ⊕ Nat) × mSh × mMm × Nat × Nat)) (hmk5 : ∀ {S : mSh} {M : mMm} {n z : Nat} {x0 : Nat} {x1 : Nat}, k5 S M n z x0 x1 = some (r, S', M', n', z') → n ≤ n' ∧ z ≤ z') (hk5 : ∀ (S : mSh) (M : mMm) (n z : Nat) (x0 : Nat) (x1 : Nat) (H : Heap) (locs : List Loc) (ls : Array Slot), nS ≤ n → zS ≤ z → mHp D n0 S M n s H locs → lv_has ls 3 [(0, .ref x0), (1, .ref x1)] → k5 S M n z x0 x1 = some (r, S', M', n', z') → W p l e (Rm_X6_sum (n' - nS) (z' - zS)) s m args below meth c H locs (n - nS) (z - zS) (mMX below D n0 (moR r) S' M' n' args s (n' - nS) (z' - zS)) (F0 m 5 ls [])) : ∀ (S : mSh) (M : mMm) (n z : Nat) (x0 : Nat) (y0 : Nat) (y1 : Int32) (y2 : Nat) (y3 : Nat) (y4 : Nat) (H : Heap) (locs : List Loc) (ls : Array Slot), nS ≤ n → zS ≤ z → mHp D n0 S M n s H locs → lv_has ls 3 [(0, .ref x0)] → fb_X6_sum_42 V k5 S M n z x0 y0 y1 y2 y3 y4 = some (r, S', M', n', z') → W p l e (Rm_X6_sum (n' - nS) (z' - zS)) s m args below meth c H locs (n - nS) (z - zS) (mMX below D n0 (moR r) S' M' n' args s (n' - nS) (z' - zS)) (F0 m 42 ls [.ref y0, .int y1, .ref y2, .ref y3, .ref y4]) := by
  have hx := X.1.1
  have hb := X.1.2.1
  have hown := X.1.2.2.2.1
  have hts := X.1.2.2.2.2
  intro S M n z x0 y0 y1 y2 y3 y4 H locs ls hn hz hp hl hF
  have hm0 := mn_X6_sum_42 _ hmk5 hF
  unfold fb_X6_sum_42 at hF
  obtain ⟨M34, e32, hF⟩ := ob_s hF
  refine m_callI (As := [.ref y2, .int y1, .ref y0]) (rest := [.ref y4]) X hp (w_X11_init e32) q852 q853 q158 q854 rfl 3 rfl ds_X11_init ⟨Nat.le_of_ble_eq_true rfl, Nat.le_of_ble_eq_true rfl⟩ hl.1 rfl (Nat.le_of_ble_eq_true rfl) dX6_sum_42 ⟨by show _ + 0 ≤ n' - nS; omega, by show _ + 0 ≤ z' - zS; omega⟩ (fun H locs hp => ?_)
  refine lv_astore_n (lv' := [(1, .ref y4), (0, .ref x0)]) hx hb dX6_sum_45 rfl hl (by decide) rfl (fun ls hl => ?_)
  refine lv_goto (tgt := 5) hx hb dX6_sum_46 (by decide) ?_
  exact hk5 _ _ _ _ _ _ _ _ _ (by omega) (by omega) hp (lv_sub hl [1, 0] rfl) hF
def fb_X6_sum_35 (V : Nat → Nat) (k5 : mSh → mMm → Nat → Nat → Nat → Nat → Option ((Nat ⊕ Nat) × mSh × mMm × Nat × Nat)) (S : mSh) (M : mMm) (n z : Nat) (x0 : Nat) (x1 : Nat) (x2 : Int32) (y0 : Nat) : Option ((Nat ⊕ Nat) × mSh × mMm × Nat × Nat) := gd ((S x0).1 = 7) (ob (f_X6_product V S M n z x0) fun ⟨o29, S26, M25, n27, z28⟩ => xk o29 S26 M25 n27 z28 fun v24 => (fb_X6_sum_42 V k5 S26 M25 n27 z28 x0 v24 x2 x1 y0 y0))
theorem mn_X6_sum_35 {r : Nat ⊕ Nat} {S' : mSh} {M' : mMm} {n' z' : Nat} (k5 : mSh → mMm → Nat → Nat → Nat → Nat → Option ((Nat ⊕ Nat) × mSh × mMm × Nat × Nat)) (hmk5 : ∀ {S : mSh} {M : mMm} {n z : Nat} {x0 : Nat} {x1 : Nat}, k5 S M n z x0 x1 = some (r, S', M', n', z') → n ≤ n' ∧ z ≤ z') : ∀ {S : mSh} {M : mMm} {n z : Nat} {x0 : Nat} {x1 : Nat} {x2 : Int32} {y0 : Nat}, fb_X6_sum_35 V k5 S M n z x0 x1 x2 y0 = some (r, S', M', n', z') → n ≤ n' ∧ z ≤ z' := by
  intro S M n z x0 x1 x2 y0 hF
  unfold fb_X6_sum_35 at hF
  obtain ⟨g22, hF⟩ := gd_s hF
  obtain ⟨⟨o29, S26, M25, n27, z28⟩, e23, hF⟩ := ob_s hF
  have hc := mn_X6_product e23
  rcases xk_s hF with ⟨v24, h30, hF⟩ | ⟨q31, h30, hF⟩
  · subst h30
    have h9 := (mn_X6_sum_42 (V := V) k5 hmk5) hF
    exact ⟨by omega, by omega⟩
  · subst h30
    cases hF
    exact ⟨by omega, by omega⟩
theorem b_X6_sum_35 {r : Nat ⊕ Nat} {S' : mSh} {M' : mMm} {n' z' : Nat} {nS zS : Nat} (hV : mV V n0 P) (hVs : mVs V n0 P) (hs : l.stackTraces = false) (hVx : mVx n0 P) (X : mCx D n0 P p m c cX6_sum 3 s args yX6_sum.cls meth (some (.object "WindingSquare$Term"))) (hX : ∀ x ∈ c.exceptionTable.toList, False) (k5 : mSh → mMm → Nat → Nat → Nat → Nat → Option ((Nat ⊕ Nat) × mSh × mMm × Nat × Nat)) (hmk5 : ∀ {S : mSh} {M : mMm} {n z : Nat} {x0 : Nat} {x1 : Nat}, k5 S M n z x0 x1 = some (r, S', M', n', z') → n ≤ n' ∧ z ≤ z') (hk5 : ∀ (S : mSh) (M : mMm) (n z : Nat) (x0 : Nat) (x1 : Nat) (H : Heap) (locs : List Loc) (ls : Array Slot), nS ≤ n → zS ≤ z → mHp D n0 S M n s H locs → lv_has ls 3 [(0, .ref x0), (1, .ref x1)] → k5 S M n z x0 x1 = some (r, S', M', n', z') → W p l e (Rm_X6_sum (n' - nS) (z' - zS)) s m args below meth c H locs (n - nS) (z - zS) (mMX below D n0 (moR r) S' M' n' args s (n' - nS) (z' - zS)) (F0 m 5 ls [])) : ∀ (S : mSh) (M : mMm) (n z : Nat) (x0 : Nat) (x1 : Nat) (x2 : Int32) (y0 : Nat) (H : Heap) (locs : List Loc) (ls : Array Slot), nS ≤ n → zS ≤ z → mHp D n0 S M n s H locs → lv_has ls 3 [(0, .ref x0), (1, .ref x1), (2, .int x2)] → fb_X6_sum_35 V k5 S M n z x0 x1 x2 y0 = some (r, S', M', n', z') → W p l e (Rm_X6_sum (n' - nS) (z' - zS)) s m args below meth c H locs (n - nS) (z - zS) (mMX below D n0 (moR r) S' M' n' args s (n' - nS) (z' - zS)) (F0 m 35 ls [.ref y0]) := by
  have hx := X.1.1
  have hb := X.1.2.1
  have hown := X.1.2.2.2.1
  have hts := X.1.2.2.2.2
  intro S M n z x0 x1 x2 y0 H locs ls hn hz hp hl hF
  have hm0 := mn_X6_sum_35 _ hmk5 hF
  unfold fb_X6_sum_35 at hF
  refine lv_dup hx hb dX6_sum_35 rfl ?_
  refine lv_aload_n hx hb dX6_sum_36 rfl (lv_at hl 1 rfl) ?_
  refine lv_iload_n hx hb dX6_sum_37 rfl (lv_at hl 2 rfl) ?_
  refine lv_aload_n hx hb dX6_sum_38 rfl (lv_at hl 0 rfl) ?_
  obtain ⟨g22, hF⟩ := gd_s hF
  obtain ⟨⟨o29, S26, M25, n27, z28⟩, e23, hF⟩ := ob_s hF
  have hc := mn_X6_product e23
  rcases xk_s hF with ⟨v24, h30, hF⟩ | ⟨q31, h30, hF⟩
  · subst h30
    have hm := (mn_X6_sum_42 (V := V) k5 hmk5) hF
    refine xm_callV (As := []) (rest := [.int x2, .ref x1, .ref y0, .ref y0]) X hp (w_X6_product hV hVs hs hVx e23) q815 q817 qs18 q148 q818 0 rfl ds_X6_product ⟨Nat.le_of_ble_eq_true rfl, Nat.le_of_ble_eq_true rfl⟩ 7 (T := TX6) (N := 10) rfl (by decide) g22 hl.1 rfl (Nat.le_of_ble_eq_true rfl) dX6_sum_39 ⟨by show _ ≤ n' - nS; omega, by show _ ≤ z' - zS; omega⟩ (fun H locs hp => ?_)
    refine W.widen (k := n27 - nS) (n := z28 - zS) (by omega) (by omega) ?_
    exact b_X6_sum_42 hV hVs hs hVx X hX k5 hmk5 hk5 _ _ _ _ _ _ _ _ _ _ _ _ _ (by omega) (by omega) hp (lv_sub hl [0] rfl) hF
  · subst h30
    cases hF
    exact xm_callVT (As := []) (rest := [.int x2, .ref x1, .ref y0, .ref y0]) X hX hp (w_X6_product hV hVs hs hVx e23) q815 q817 qs18 q148 q818 0 rfl ds_X6_product ⟨Nat.le_of_ble_eq_true rfl, Nat.le_of_ble_eq_true rfl⟩ 7 (T := TX6) (N := 10) rfl (by decide) g22 hl.1 rfl (Nat.le_of_ble_eq_true rfl) dX6_sum_39 ⟨by show _ ≤ n' - nS; omega, by show _ ≤ z' - zS; omega⟩ ⟨by omega, by omega⟩
def fb_X6_sum_23 (V : Nat → Nat) (k5 : mSh → mMm → Nat → Nat → Nat → Nat → Option ((Nat ⊕ Nat) × mSh × mMm × Nat × Nat)) (S : mSh) (M : mMm) (n z : Nat) (x0 : Nat) (x1 : Nat) : Option ((Nat ⊕ Nat) × mSh × mMm × Nat × Nat) := ob (rI S M x0 7 5) fun v17 => ob (f_X6_next V S M x0) fun M21 => (fb_X6_sum_35 V k5 (mS1 S n (11, 0)) (mM1 M21 n fun k => defaultValue (tyX11 k)) (n + 1) (z + 3) x0 x1 v17 n)
theorem mn_X6_sum_23 {r : Nat ⊕ Nat} {S' : mSh} {M' : mMm} {n' z' : Nat} (k5 : mSh → mMm → Nat → Nat → Nat → Nat → Option ((Nat ⊕ Nat) × mSh × mMm × Nat × Nat)) (hmk5 : ∀ {S : mSh} {M : mMm} {n z : Nat} {x0 : Nat} {x1 : Nat}, k5 S M n z x0 x1 = some (r, S', M', n', z') → n ≤ n' ∧ z ≤ z') : ∀ {S : mSh} {M : mMm} {n z : Nat} {x0 : Nat} {x1 : Nat}, fb_X6_sum_23 V k5 S M n z x0 x1 = some (r, S', M', n', z') → n ≤ n' ∧ z ≤ z' := by
  intro S M n z x0 x1 hF
  unfold fb_X6_sum_23 at hF
  obtain ⟨v17, e18, hF⟩ := ob_s hF
  obtain ⟨M21, e19, hF⟩ := ob_s hF
  have h9 := (mn_X6_sum_35 (V := V) k5 hmk5) hF
  exact ⟨by omega, by omega⟩
theorem b_X6_sum_23 {r : Nat ⊕ Nat} {S' : mSh} {M' : mMm} {n' z' : Nat} {nS zS : Nat} (hV : mV V n0 P) (hVs : mVs V n0 P) (hs : l.stackTraces = false) (hVx : mVx n0 P) (X : mCx D n0 P p m c cX6_sum 3 s args yX6_sum.cls meth (some (.object "WindingSquare$Term"))) (hX : ∀ x ∈ c.exceptionTable.toList, False) (k5 : mSh → mMm → Nat → Nat → Nat → Nat → Option ((Nat ⊕ Nat) × mSh × mMm × Nat × Nat)) (hmk5 : ∀ {S : mSh} {M : mMm} {n z : Nat} {x0 : Nat} {x1 : Nat}, k5 S M n z x0 x1 = some (r, S', M', n', z') → n ≤ n' ∧ z ≤ z') (hk5 : ∀ (S : mSh) (M : mMm) (n z : Nat) (x0 : Nat) (x1 : Nat) (H : Heap) (locs : List Loc) (ls : Array Slot), nS ≤ n → zS ≤ z → mHp D n0 S M n s H locs → lv_has ls 3 [(0, .ref x0), (1, .ref x1)] → k5 S M n z x0 x1 = some (r, S', M', n', z') → W p l e (Rm_X6_sum (n' - nS) (z' - zS)) s m args below meth c H locs (n - nS) (z - zS) (mMX below D n0 (moR r) S' M' n' args s (n' - nS) (z' - zS)) (F0 m 5 ls [])) : ∀ (S : mSh) (M : mMm) (n z : Nat) (x0 : Nat) (x1 : Nat) (H : Heap) (locs : List Loc) (ls : Array Slot), nS ≤ n → zS ≤ z → mHp D n0 S M n s H locs → lv_has ls 3 [(0, .ref x0), (1, .ref x1)] → fb_X6_sum_23 V k5 S M n z x0 x1 = some (r, S', M', n', z') → W p l e (Rm_X6_sum (n' - nS) (z' - zS)) s m args below meth c H locs (n - nS) (z - zS) (mMX below D n0 (moR r) S' M' n' args s (n' - nS) (z' - zS)) (F0 m 23 ls []) := by
  have hx := X.1.1
  have hb := X.1.2.1
  have hown := X.1.2.2.2.1
  have hts := X.1.2.2.2.2
  intro S M n z x0 x1 H locs ls hn hz hp hl hF
  have hm0 := mn_X6_sum_23 _ hmk5 hF
  unfold fb_X6_sum_23 at hF
  refine lv_aload_n hx hb dX6_sum_23 rfl (lv_at hl 0 rfl) ?_
  obtain ⟨v17, e18, hF⟩ := ob_s hF
  refine m_getI X hp e18 kX6 (Nat.le_of_ble_eq_true rfl) q590 dX6_sum_24 ?_
  refine lv_istore_n (lv' := [(2, .int v17), (0, .ref x0), (1, .ref x1)]) hx hb dX6_sum_27 rfl hl (by decide) rfl (fun ls hl => ?_)
  refine lv_aload_n hx hb dX6_sum_28 rfl (lv_at hl 1 rfl) ?_
  obtain ⟨M21, e19, hF⟩ := ob_s hF
  refine m_callV (As := []) (rest := []) X hp (w_X6_next hVs e19) q621 q623 qs5 q148 q624 0 rfl ds_X6_next ⟨Nat.le_of_ble_eq_true rfl, Nat.le_of_ble_eq_true rfl⟩ 7 (T := TX6) (N := 10) rfl (by decide) (rI_s e18).1 hl.1 rfl (Nat.le_of_ble_eq_true rfl) dX6_sum_29 ⟨by show _ + 0 ≤ n' - nS; omega, by show _ + 0 ≤ z' - zS; omega⟩ (fun H locs hp => ?_)
  have hm := (mn_X6_sum_35 (V := V) k5 hmk5) hF
  refine m_new X hp kX11 q850 q851 q158 (by show _ ≤ n' - nS; omega) (by show _ ≤ z' - zS; omega) dX6_sum_32 (fun H hp => ?_)
  refine W.widen (k := n + 1 - nS) (n := z + 3 - zS) (by omega) (by omega) ?_
  exact b_X6_sum_35 hV hVs hs hVx X hX k5 hmk5 hk5 _ _ _ _ _ _ _ _ _ _ _ (by omega) (by omega) hp (lv_sub hl [1, 2, 0] rfl) hF
def fb_X6_sum_5 (V : Nat → Nat) : Nat → mSh → mMm → Nat → Nat → Nat → Nat → Option ((Nat ⊕ Nat) × mSh × mMm × Nat × Nat)
  | 0, _, _, _, _, _, _ => none
  | t + 1, S, M, n, z, x0, x1 => ob (rI S M x0 7 5) fun v11 => (if v11 = (43 : Int32) then (fb_X6_sum_23 V (fb_X6_sum_5 V t) S M n z x0 x1) else ob (rI S M x0 7 5) fun v14 => (if v14 = (45 : Int32) then (fb_X6_sum_23 V (fb_X6_sum_5 V t) S M n z x0 x1) else some (.inl x1, S, M, n, z)))
theorem mn_X6_sum_5 {r : Nat ⊕ Nat} {S' : mSh} {M' : mMm} {n' z' : Nat} : ∀ {t : Nat} {S : mSh} {M : mMm} {n z : Nat} {x0 : Nat} {x1 : Nat}, fb_X6_sum_5 V t S M n z x0 x1 = some (r, S', M', n', z') → n ≤ n' ∧ z ≤ z' := by
  intro t
  induction t with
  | zero =>
    intro S M n z x0 x1 hF
    have hF : none = some (r, S', M', n', z') := hF
    cases hF
  | succ t ihm =>
    intro S M n z x0 x1 hF
    rw [fb_X6_sum_5] at hF
    obtain ⟨v11, e12, hF⟩ := ob_s hF
    rcases Decidable.em (v11 = (43 : Int32)) with c13 | c13
    · have hF := if_p c13 hF
      have h9 := (mn_X6_sum_23 (V := V) (fb_X6_sum_5 V t) @ihm) hF
      exact ⟨by omega, by omega⟩
    · have hF := if_n c13 hF
      obtain ⟨v14, e15, hF⟩ := ob_s hF
      rcases (Decidable.em (v14 = (45 : Int32))).symm with c16 | c16
      · have hF := if_n c16 hF
        cases hF
        exact ⟨Nat.le_refl _, Nat.le_refl _⟩
      · have hF := if_p c16 hF
        have h9 := (mn_X6_sum_23 (V := V) (fb_X6_sum_5 V t) @ihm) hF
        exact ⟨by omega, by omega⟩
theorem b_X6_sum_5 {r : Nat ⊕ Nat} {S' : mSh} {M' : mMm} {n' z' : Nat} {nS zS : Nat} (hV : mV V n0 P) (hVs : mVs V n0 P) (hs : l.stackTraces = false) (hVx : mVx n0 P) (X : mCx D n0 P p m c cX6_sum 3 s args yX6_sum.cls meth (some (.object "WindingSquare$Term"))) (hX : ∀ x ∈ c.exceptionTable.toList, False) : ∀ t : Nat, ∀ (S : mSh) (M : mMm) (n z : Nat) (x0 : Nat) (x1 : Nat) (H : Heap) (locs : List Loc) (ls : Array Slot), nS ≤ n → zS ≤ z → mHp D n0 S M n s H locs → lv_has ls 3 [(0, .ref x0), (1, .ref x1)] → fb_X6_sum_5 V t S M n z x0 x1 = some (r, S', M', n', z') → W p l e (Rm_X6_sum (n' - nS) (z' - zS)) s m args below meth c H locs (n - nS) (z - zS) (mMX below D n0 (moR r) S' M' n' args s (n' - nS) (z' - zS)) (F0 m 5 ls []) := by
  have hx := X.1.1
  have hb := X.1.2.1
  have hown := X.1.2.2.2.1
  have hts := X.1.2.2.2.2
  intro t
  induction t with
  | zero =>
    intro S M n z x0 x1 H locs ls hn hz hp hl hF
    have hF : none = some (r, S', M', n', z') := hF
    cases hF
  | succ t ih =>
    intro S M n z x0 x1 H locs ls hn hz hp hl hF
    have ihm := @mn_X6_sum_5 V r S' M' n' z' t
    have hm0 := mn_X6_sum_5 hF
    rw [fb_X6_sum_5] at hF
    refine lv_aload_n hx hb dX6_sum_5 rfl (lv_at hl 0 rfl) ?_
    obtain ⟨v11, e12, hF⟩ := ob_s hF
    refine m_getI X hp e12 kX6 (Nat.le_of_ble_eq_true rfl) q590 dX6_sum_6 ?_
    refine lv_bipush (v := 43) hx hb dX6_sum_9 (by decide) ?_
    refine lv_icmp_eq (tgt := 23) hx hb dX6_sum_11 (by decide) (fun c13 => ?_) (fun c13 => ?_)
    · have hF := if_p c13 hF
      exact b_X6_sum_23 hV hVs hs hVx X hX (fb_X6_sum_5 V t) @ihm ih _ _ _ _ _ _ _ _ _ (by omega) (by omega) hp (lv_sub hl [0, 1] rfl) hF
    · have hF := if_n c13 hF
      refine lv_aload_n hx hb dX6_sum_14 rfl (lv_at hl 0 rfl) ?_
      obtain ⟨v14, e15, hF⟩ := ob_s hF
      refine m_getI X hp e15 kX6 (Nat.le_of_ble_eq_true rfl) q590 dX6_sum_15 ?_
      refine lv_bipush (v := 45) hx hb dX6_sum_18 (by decide) ?_
      refine lv_icmp_ne (tgt := 49) hx hb dX6_sum_20 (by decide) (fun c16 => ?_) (fun c16 => ?_)
      · have hF := if_n c16 hF
        refine lv_aload_n hx hb dX6_sum_49 rfl (lv_at hl 1 rfl) ?_
        cases hF
        exact xm_ret (m_aret X hp (Or.inl ⟨_, rfl⟩) dX6_sum_50)
      · have hF := if_p c16 hF
        exact b_X6_sum_23 hV hVs hs hVx X hX (fb_X6_sum_5 V t) @ihm ih _ _ _ _ _ _ _ _ _ (by omega) (by omega) hp (lv_sub hl [0, 1] rfl) hF
def fb_X6_sum_4 (V : Nat → Nat) (S : mSh) (M : mMm) (n z : Nat) (x0 : Nat) (y0 : Nat) : Option ((Nat ⊕ Nat) × mSh × mMm × Nat × Nat) := (fb_X6_sum_5 V FU S M n z x0 y0)
theorem mn_X6_sum_4 {r : Nat ⊕ Nat} {S' : mSh} {M' : mMm} {n' z' : Nat} : ∀ {S : mSh} {M : mMm} {n z : Nat} {x0 : Nat} {y0 : Nat}, fb_X6_sum_4 V S M n z x0 y0 = some (r, S', M', n', z') → n ≤ n' ∧ z ≤ z' := by
  intro S M n z x0 y0 hF
  unfold fb_X6_sum_4 at hF
  have h9 := (mn_X6_sum_5 (V := V)) hF
  exact ⟨by omega, by omega⟩
theorem b_X6_sum_4 {r : Nat ⊕ Nat} {S' : mSh} {M' : mMm} {n' z' : Nat} {nS zS : Nat} (hV : mV V n0 P) (hVs : mVs V n0 P) (hs : l.stackTraces = false) (hVx : mVx n0 P) (X : mCx D n0 P p m c cX6_sum 3 s args yX6_sum.cls meth (some (.object "WindingSquare$Term"))) (hX : ∀ x ∈ c.exceptionTable.toList, False) : ∀ (S : mSh) (M : mMm) (n z : Nat) (x0 : Nat) (y0 : Nat) (H : Heap) (locs : List Loc) (ls : Array Slot), nS ≤ n → zS ≤ z → mHp D n0 S M n s H locs → lv_has ls 3 [(0, .ref x0)] → fb_X6_sum_4 V S M n z x0 y0 = some (r, S', M', n', z') → W p l e (Rm_X6_sum (n' - nS) (z' - zS)) s m args below meth c H locs (n - nS) (z - zS) (mMX below D n0 (moR r) S' M' n' args s (n' - nS) (z' - zS)) (F0 m 4 ls [.ref y0]) := by
  have hx := X.1.1
  have hb := X.1.2.1
  have hown := X.1.2.2.2.1
  have hts := X.1.2.2.2.2
  intro S M n z x0 y0 H locs ls hn hz hp hl hF
  have hm0 := mn_X6_sum_4 hF
  unfold fb_X6_sum_4 at hF
  refine lv_astore_n (lv' := [(1, .ref y0), (0, .ref x0)]) hx hb dX6_sum_4 rfl hl (by decide) rfl (fun ls hl => ?_)
  exact b_X6_sum_5 hV hVs hs hVx X hX _ _ _ _ _ _ _ _ _ _ (by omega) (by omega) hp (lv_sub hl [1, 0] rfl) hF
def fb_X6_sum_0 (V : Nat → Nat) (S : mSh) (M : mMm) (n z : Nat) (x0 : Nat) : Option ((Nat ⊕ Nat) × mSh × mMm × Nat × Nat) := gd ((S x0).1 = 7) (ob (f_X6_product V S M n z x0) fun ⟨o8, S5, M4, n6, z7⟩ => xk o8 S5 M4 n6 z7 fun v3 => (fb_X6_sum_4 V S5 M4 n6 z7 x0 v3))
theorem mn_X6_sum_0 {r : Nat ⊕ Nat} {S' : mSh} {M' : mMm} {n' z' : Nat} : ∀ {S : mSh} {M : mMm} {n z : Nat} {x0 : Nat}, fb_X6_sum_0 V S M n z x0 = some (r, S', M', n', z') → n ≤ n' ∧ z ≤ z' := by
  intro S M n z x0 hF
  unfold fb_X6_sum_0 at hF
  obtain ⟨g1, hF⟩ := gd_s hF
  obtain ⟨⟨o8, S5, M4, n6, z7⟩, e2, hF⟩ := ob_s hF
  have hc := mn_X6_product e2
  rcases xk_s hF with ⟨v3, h9, hF⟩ | ⟨q10, h9, hF⟩
  · subst h9
    have h9 := (mn_X6_sum_4 (V := V)) hF
    exact ⟨by omega, by omega⟩
  · subst h9
    cases hF
    exact ⟨by omega, by omega⟩
theorem b_X6_sum_0 {r : Nat ⊕ Nat} {S' : mSh} {M' : mMm} {n' z' : Nat} {nS zS : Nat} (hV : mV V n0 P) (hVs : mVs V n0 P) (hs : l.stackTraces = false) (hVx : mVx n0 P) (X : mCx D n0 P p m c cX6_sum 3 s args yX6_sum.cls meth (some (.object "WindingSquare$Term"))) (hX : ∀ x ∈ c.exceptionTable.toList, False) : ∀ (S : mSh) (M : mMm) (n z : Nat) (x0 : Nat) (H : Heap) (locs : List Loc) (ls : Array Slot), nS ≤ n → zS ≤ z → mHp D n0 S M n s H locs → lv_has ls 3 [(0, .ref x0)] → fb_X6_sum_0 V S M n z x0 = some (r, S', M', n', z') → W p l e (Rm_X6_sum (n' - nS) (z' - zS)) s m args below meth c H locs (n - nS) (z - zS) (mMX below D n0 (moR r) S' M' n' args s (n' - nS) (z' - zS)) (F0 m 0 ls []) := by
  have hx := X.1.1
  have hb := X.1.2.1
  have hown := X.1.2.2.2.1
  have hts := X.1.2.2.2.2
  intro S M n z x0 H locs ls hn hz hp hl hF
  have hm0 := mn_X6_sum_0 hF
  unfold fb_X6_sum_0 at hF
  refine lv_aload_n hx hb dX6_sum_0 rfl (lv_at hl 0 rfl) ?_
  obtain ⟨g1, hF⟩ := gd_s hF
  obtain ⟨⟨o8, S5, M4, n6, z7⟩, e2, hF⟩ := ob_s hF
  have hc := mn_X6_product e2
  rcases xk_s hF with ⟨v3, h9, hF⟩ | ⟨q10, h9, hF⟩
  · subst h9
    have hm := (mn_X6_sum_4 (V := V)) hF
    refine xm_callV (As := []) (rest := []) X hp (w_X6_product hV hVs hs hVx e2) q815 q817 qs18 q148 q818 0 rfl ds_X6_product ⟨Nat.le_of_ble_eq_true rfl, Nat.le_of_ble_eq_true rfl⟩ 7 (T := TX6) (N := 10) rfl (by decide) g1 hl.1 rfl (Nat.le_of_ble_eq_true rfl) dX6_sum_1 ⟨by show _ ≤ n' - nS; omega, by show _ ≤ z' - zS; omega⟩ (fun H locs hp => ?_)
    refine W.widen (k := n6 - nS) (n := z7 - zS) (by omega) (by omega) ?_
    exact b_X6_sum_4 hV hVs hs hVx X hX _ _ _ _ _ _ _ _ _ (by omega) (by omega) hp (lv_sub hl [0] rfl) hF
  · subst h9
    cases hF
    exact xm_callVT (As := []) (rest := []) X hX hp (w_X6_product hV hVs hs hVx e2) q815 q817 qs18 q148 q818 0 rfl ds_X6_product ⟨Nat.le_of_ble_eq_true rfl, Nat.le_of_ble_eq_true rfl⟩ 7 (T := TX6) (N := 10) rfl (by decide) g1 hl.1 rfl (Nat.le_of_ble_eq_true rfl) dX6_sum_1 ⟨by show _ ≤ n' - nS; omega, by show _ ≤ z' - zS; omega⟩ ⟨by omega, by omega⟩
def f_X6_sum (V : Nat → Nat) (S : mSh) (M : mMm) (n z : Nat) (x0 : Nat) : Option ((Nat ⊕ Nat) × mSh × mMm × Nat × Nat) := (fb_X6_sum_0 V S M n z x0)
theorem mn_X6_sum {x0 : Nat} {r : Nat ⊕ Nat} {S' : mSh} {M' : mMm} {n' z' : Nat} {S : mSh} {M : mMm} {n z : Nat} (hF : f_X6_sum V S M n z x0 = some (r, S', M', n', z')) : n ≤ n' ∧ z ≤ z' := by
  unfold f_X6_sum at hF
  exact mn_X6_sum_0 hF
theorem w_X6_sum {x0 : Nat} {r : Nat ⊕ Nat} {S' : mSh} {M' : mMm} {n' z' : Nat} {S : mSh} {M : mMm} {n z : Nat} (hV : mV V n0 P) (hVs : mVs V n0 P) (hs : l.stackTraces = false) (hVx : mVx n0 P) (hF : f_X6_sum V S M n z x0 = some (r, S', M', n', z')) : mXt l D n0 P yX6_sum cX6_sum 3 (some (.object "WindingSquare$Term")) 12 310 (n' - n) (z' - z) [.ref x0] S M n (moR r) S' M' n' := by
  refine m_ofX (by decide) (Nat.le_of_ble_eq_true rfl) (fun p e s m below meth c X hX hp ls hl => ?_)
  unfold f_X6_sum at hF
  refine W.widen (k := n - n) (n := z - z) (by omega) (by omega) ?_
  exact b_X6_sum_0 hV hVs hs hVx X hX _ _ _ _ _ _ _ _ (Nat.le_refl _) (Nat.le_refl _) hp hl hF
end
section
variable {l : Launch} {D : va_G} {n0 : Nat} {P : mP} {V : Nat → Nat} {p : Program} {e : Env} {s : State} {m : MethodId} {args : Array Value} {below : List Frame} {meth : Method} {c : Code}
abbrev Rm_X6_all (frr lor mc ms : Nat) : Room := { frames := frr + 1, cells := mc, slots := ms, locals := lor + 22 }
def fb_X6_all_27 (V : Nat → Nat) (rec : mSh → mMm → Nat → Nat → Nat → Option ((Nat ⊕ Nat) × mSh × mMm × Nat × Nat)) (k5 : mSh → mMm → Nat → Nat → Nat → Nat → Option ((Nat ⊕ Nat) × mSh × mMm × Nat × Nat)) (S : mSh) (M : mMm) (n z : Nat) (x0 : Nat) (y0 : Nat) (y1 : Int32) (y2 : Nat) (y3 : Nat) (y4 : Nat) : Option ((Nat ⊕ Nat) × mSh × mMm × Nat × Nat) := ob (f_X11_init S M y3 y2 y1 y0) fun M29 => (k5 S M29 n z x0 y4)
theorem mn_X6_all_27 {r : Nat ⊕ Nat} {rec : mSh → mMm → Nat → Nat → Nat → Option ((Nat ⊕ Nat) × mSh × mMm × Nat × Nat)} {S' : mSh} {M' : mMm} {n' z' : Nat} (hmr : ∀ {S : mSh} {M : mMm} {n z x0 : Nat} {r : Nat ⊕ Nat} {S' : mSh} {M' : mMm} {n' z' : Nat}, rec S M n z x0 = some (r, S', M', n', z') → n ≤ n' ∧ z ≤ z') (k5 : mSh → mMm → Nat → Nat → Nat → Nat → Option ((Nat ⊕ Nat) × mSh × mMm × Nat × Nat)) (hmk5 : ∀ {S : mSh} {M : mMm} {n z : Nat} {x0 : Nat} {x1 : Nat}, k5 S M n z x0 x1 = some (r, S', M', n', z') → n ≤ n' ∧ z ≤ z') : ∀ {S : mSh} {M : mMm} {n z : Nat} {x0 : Nat} {y0 : Nat} {y1 : Int32} {y2 : Nat} {y3 : Nat} {y4 : Nat}, fb_X6_all_27 V rec k5 S M n z x0 y0 y1 y2 y3 y4 = some (r, S', M', n', z') → n ≤ n' ∧ z ≤ z' := by
  intro S M n z x0 y0 y1 y2 y3 y4 hF
  unfold fb_X6_all_27 at hF
  obtain ⟨M29, e27, hF⟩ := ob_s hF
  have h9 := hmk5 hF
  exact ⟨by omega, by omega⟩
theorem b_X6_all_27 {r : Nat ⊕ Nat} {S' : mSh} {M' : mMm} {n' z' : Nat} {frr lor : Nat} {rec : mSh → mMm → Nat → Nat → Nat → Option ((Nat ⊕ Nat) × mSh × mMm × Nat × Nat)} (hmr : ∀ {S : mSh} {M : mMm} {n z x0 : Nat} {r : Nat ⊕ Nat} {S' : mSh} {M' : mMm} {n' z' : Nat}, rec S M n z x0 = some (r, S', M', n', z') → n ≤ n' ∧ z ≤ z') (hrec : ∀ {S : mSh} {M : mMm} {n z x0 : Nat} {r : Nat ⊕ Nat} {S' : mSh} {M' : mMm} {n' z' : Nat}, rec S M n z x0 = some (r, S', M', n', z') → mXt l D n0 P yX6_one cX6_one 3 (some (.object "WindingSquare$Term")) frr lor (n' - n) (z' - z) [.ref x0] S M n (moR r) S' M' n') (hfl : 13 ≤ frr ∧ 332 ≤ lor) {nS zS : Nat} (hV : mV V n0 P) (hVs : mVs V n0 P) (hs : l.stackTraces = false) (hVx : mVx n0 P) (X : mCx D n0 P p m c cX6_all 2 s args yX6_all.cls meth (some (.object "WindingSquare$Term"))) (hX : ∀ x ∈ c.exceptionTable.toList, False) (k5 : mSh → mMm → Nat → Nat → Nat → Nat → Option ((Nat ⊕ Nat) × mSh × mMm × Nat × Nat)) (hmk5 : ∀ {S : mSh} {M : mMm} {n z : Nat} {x0 : Nat} {x1 : Nat}, k5 S M n z x0 x1 = some (r, S', M', n', z') → n ≤ n' ∧ z ≤ z') (hk5 : ∀ (S : mSh) (M : mMm) (n z : Nat) (x0 : Nat) (x1 : Nat) (H : Heap) (locs : List Loc) (ls : Array Slot), nS ≤ n → zS ≤ z → mHp D n0 S M n s H locs → lv_has ls 2 [(0, .ref x0), (1, .ref x1)] → k5 S M n z x0 x1 = some (r, S', M', n', z') → W p l e (Rm_X6_all frr lor (n' - nS) (z' - zS)) s m args below meth c H locs (n - nS) (z - zS) (mMX below D n0 (moR r) S' M' n' args s (n' - nS) (z' - zS)) (F0 m 5 ls [])) : ∀ (S : mSh) (M : mMm) (n z : Nat) (x0 : Nat) (y0 : Nat) (y1 : Int32) (y2 : Nat) (y3 : Nat) (y4 : Nat) (H : Heap) (locs : List Loc) (ls : Array Slot), nS ≤ n → zS ≤ z → mHp D n0 S M n s H locs → lv_has ls 2 [(0, .ref x0)] → fb_X6_all_27 V rec k5 S M n z x0 y0 y1 y2 y3 y4 = some (r, S', M', n', z') → W p l e (Rm_X6_all frr lor (n' - nS) (z' - zS)) s m args below meth c H locs (n - nS) (z - zS) (mMX below D n0 (moR r) S' M' n' args s (n' - nS) (z' - zS)) (F0 m 27 ls [.ref y0, .int y1, .ref y2, .ref y3, .ref y4]) := by
  have hx := X.1.1
  have hb := X.1.2.1
  have hown := X.1.2.2.2.1
  have hts := X.1.2.2.2.2
  intro S M n z x0 y0 y1 y2 y3 y4 H locs ls hn hz hp hl hF
  have hm0 := mn_X6_all_27 (rec := rec) @hmr _ hmk5 hF
  unfold fb_X6_all_27 at hF
  obtain ⟨M29, e27, hF⟩ := ob_s hF
  refine m_callI (As := [.ref y2, .int y1, .ref y0]) (rest := [.ref y4]) X hp (w_X11_init e27) q852 q853 q158 q854 rfl 3 rfl ds_X11_init ⟨by show _ ≤ frr + 1; omega, by show _ ≤ lor + 22; omega⟩ hl.1 rfl (Nat.le_of_ble_eq_true rfl) dX6_all_27 ⟨by show _ + 0 ≤ n' - nS; omega, by show _ + 0 ≤ z' - zS; omega⟩ (fun H locs hp => ?_)
  refine lv_astore_n (lv' := [(1, .ref y4), (0, .ref x0)]) hx hb dX6_all_30 rfl hl (by decide) rfl (fun ls hl => ?_)
  refine lv_goto (tgt := 5) hx hb dX6_all_31 (by decide) ?_
  exact hk5 _ _ _ _ _ _ _ _ _ (by omega) (by omega) hp (lv_sub hl [1, 0] rfl) hF
def fb_X6_all_20 (V : Nat → Nat) (rec : mSh → mMm → Nat → Nat → Nat → Option ((Nat ⊕ Nat) × mSh × mMm × Nat × Nat)) (k5 : mSh → mMm → Nat → Nat → Nat → Nat → Option ((Nat ⊕ Nat) × mSh × mMm × Nat × Nat)) (S : mSh) (M : mMm) (n z : Nat) (x0 : Nat) (x1 : Nat) (y0 : Nat) : Option ((Nat ⊕ Nat) × mSh × mMm × Nat × Nat) := gd ((S x0).1 = 7) (ob (rec S M n z x0) fun ⟨o24, S21, M20, n22, z23⟩ => xk o24 S21 M20 n22 z23 fun v19 => (fb_X6_all_27 V rec k5 S21 M20 n22 z23 x0 v19 (5 : Int32) x1 y0 y0))
theorem mn_X6_all_20 {r : Nat ⊕ Nat} {rec : mSh → mMm → Nat → Nat → Nat → Option ((Nat ⊕ Nat) × mSh × mMm × Nat × Nat)} {S' : mSh} {M' : mMm} {n' z' : Nat} (hmr : ∀ {S : mSh} {M : mMm} {n z x0 : Nat} {r : Nat ⊕ Nat} {S' : mSh} {M' : mMm} {n' z' : Nat}, rec S M n z x0 = some (r, S', M', n', z') → n ≤ n' ∧ z ≤ z') (k5 : mSh → mMm → Nat → Nat → Nat → Nat → Option ((Nat ⊕ Nat) × mSh × mMm × Nat × Nat)) (hmk5 : ∀ {S : mSh} {M : mMm} {n z : Nat} {x0 : Nat} {x1 : Nat}, k5 S M n z x0 x1 = some (r, S', M', n', z') → n ≤ n' ∧ z ≤ z') : ∀ {S : mSh} {M : mMm} {n z : Nat} {x0 : Nat} {x1 : Nat} {y0 : Nat}, fb_X6_all_20 V rec k5 S M n z x0 x1 y0 = some (r, S', M', n', z') → n ≤ n' ∧ z ≤ z' := by
  intro S M n z x0 x1 y0 hF
  unfold fb_X6_all_20 at hF
  obtain ⟨g17, hF⟩ := gd_s hF
  obtain ⟨⟨o24, S21, M20, n22, z23⟩, e18, hF⟩ := ob_s hF
  have hc := hmr e18
  rcases xk_s hF with ⟨v19, h25, hF⟩ | ⟨q26, h25, hF⟩
  · subst h25
    have h9 := (mn_X6_all_27 (V := V) (rec := rec) @hmr k5 hmk5) hF
    exact ⟨by omega, by omega⟩
  · subst h25
    cases hF
    exact ⟨by omega, by omega⟩
theorem b_X6_all_20 {r : Nat ⊕ Nat} {S' : mSh} {M' : mMm} {n' z' : Nat} {frr lor : Nat} {rec : mSh → mMm → Nat → Nat → Nat → Option ((Nat ⊕ Nat) × mSh × mMm × Nat × Nat)} (hmr : ∀ {S : mSh} {M : mMm} {n z x0 : Nat} {r : Nat ⊕ Nat} {S' : mSh} {M' : mMm} {n' z' : Nat}, rec S M n z x0 = some (r, S', M', n', z') → n ≤ n' ∧ z ≤ z') (hrec : ∀ {S : mSh} {M : mMm} {n z x0 : Nat} {r : Nat ⊕ Nat} {S' : mSh} {M' : mMm} {n' z' : Nat}, rec S M n z x0 = some (r, S', M', n', z') → mXt l D n0 P yX6_one cX6_one 3 (some (.object "WindingSquare$Term")) frr lor (n' - n) (z' - z) [.ref x0] S M n (moR r) S' M' n') (hfl : 13 ≤ frr ∧ 332 ≤ lor) {nS zS : Nat} (hV : mV V n0 P) (hVs : mVs V n0 P) (hs : l.stackTraces = false) (hVx : mVx n0 P) (X : mCx D n0 P p m c cX6_all 2 s args yX6_all.cls meth (some (.object "WindingSquare$Term"))) (hX : ∀ x ∈ c.exceptionTable.toList, False) (k5 : mSh → mMm → Nat → Nat → Nat → Nat → Option ((Nat ⊕ Nat) × mSh × mMm × Nat × Nat)) (hmk5 : ∀ {S : mSh} {M : mMm} {n z : Nat} {x0 : Nat} {x1 : Nat}, k5 S M n z x0 x1 = some (r, S', M', n', z') → n ≤ n' ∧ z ≤ z') (hk5 : ∀ (S : mSh) (M : mMm) (n z : Nat) (x0 : Nat) (x1 : Nat) (H : Heap) (locs : List Loc) (ls : Array Slot), nS ≤ n → zS ≤ z → mHp D n0 S M n s H locs → lv_has ls 2 [(0, .ref x0), (1, .ref x1)] → k5 S M n z x0 x1 = some (r, S', M', n', z') → W p l e (Rm_X6_all frr lor (n' - nS) (z' - zS)) s m args below meth c H locs (n - nS) (z - zS) (mMX below D n0 (moR r) S' M' n' args s (n' - nS) (z' - zS)) (F0 m 5 ls [])) : ∀ (S : mSh) (M : mMm) (n z : Nat) (x0 : Nat) (x1 : Nat) (y0 : Nat) (H : Heap) (locs : List Loc) (ls : Array Slot), nS ≤ n → zS ≤ z → mHp D n0 S M n s H locs → lv_has ls 2 [(0, .ref x0), (1, .ref x1)] → fb_X6_all_20 V rec k5 S M n z x0 x1 y0 = some (r, S', M', n', z') → W p l e (Rm_X6_all frr lor (n' - nS) (z' - zS)) s m args below meth c H locs (n - nS) (z - zS) (mMX below D n0 (moR r) S' M' n' args s (n' - nS) (z' - zS)) (F0 m 20 ls [.ref y0]) := by
  have hx := X.1.1
  have hb := X.1.2.1
  have hown := X.1.2.2.2.1
  have hts := X.1.2.2.2.2
  intro S M n z x0 x1 y0 H locs ls hn hz hp hl hF
  have hm0 := mn_X6_all_20 (rec := rec) @hmr _ hmk5 hF
  unfold fb_X6_all_20 at hF
  refine lv_dup hx hb dX6_all_20 rfl ?_
  refine lv_aload_n hx hb dX6_all_21 rfl (lv_at hl 1 rfl) ?_
  refine lv_iconst (v := 5) hx hb dX6_all_22 (by decide) ?_
  refine lv_aload_n hx hb dX6_all_23 rfl (lv_at hl 0 rfl) ?_
  obtain ⟨g17, hF⟩ := gd_s hF
  obtain ⟨⟨o24, S21, M20, n22, z23⟩, e18, hF⟩ := ob_s hF
  have hc := hmr e18
  rcases xk_s hF with ⟨v19, h25, hF⟩ | ⟨q26, h25, hF⟩
  · subst h25
    have hm := (mn_X6_all_27 (V := V) (rec := rec) @hmr k5 hmk5) hF
    refine xm_callV (As := []) (rest := [.int (5 : Int32), .ref x1, .ref y0, .ref y0]) X hp (hrec e18) q874 q876 qs23 q148 q877 0 rfl ds_X6_one ⟨by show _ ≤ frr + 1; omega, by show _ ≤ lor + 22; omega⟩ 7 (T := TX6) (N := 10) rfl (by decide) g17 hl.1 rfl (Nat.le_of_ble_eq_true rfl) dX6_all_24 ⟨by show _ ≤ n' - nS; omega, by show _ ≤ z' - zS; omega⟩ (fun H locs hp => ?_)
    refine W.widen (k := n22 - nS) (n := z23 - zS) (by omega) (by omega) ?_
    exact b_X6_all_27 (rec := rec) @hmr @hrec hfl hV hVs hs hVx X hX k5 hmk5 hk5 _ _ _ _ _ _ _ _ _ _ _ _ _ (by omega) (by omega) hp (lv_sub hl [0] rfl) hF
  · subst h25
    cases hF
    exact xm_callVT (As := []) (rest := [.int (5 : Int32), .ref x1, .ref y0, .ref y0]) X hX hp (hrec e18) q874 q876 qs23 q148 q877 0 rfl ds_X6_one ⟨by show _ ≤ frr + 1; omega, by show _ ≤ lor + 22; omega⟩ 7 (T := TX6) (N := 10) rfl (by decide) g17 hl.1 rfl (Nat.le_of_ble_eq_true rfl) dX6_all_24 ⟨by show _ ≤ n' - nS; omega, by show _ ≤ z' - zS; omega⟩ ⟨by omega, by omega⟩
def fb_X6_all_5 (V : Nat → Nat) (rec : mSh → mMm → Nat → Nat → Nat → Option ((Nat ⊕ Nat) × mSh × mMm × Nat × Nat)) : Nat → mSh → mMm → Nat → Nat → Nat → Nat → Option ((Nat ⊕ Nat) × mSh × mMm × Nat × Nat)
  | 0, _, _, _, _, _, _ => none
  | t + 1, S, M, n, z, x0, x1 => ob (rI S M x0 7 5) fun v11 => (if v11 = (5 : Int32) then ob (f_X6_next V S M x0) fun M16 => (fb_X6_all_20 V rec (fb_X6_all_5 V rec t) (mS1 S n (11, 0)) (mM1 M16 n fun k => defaultValue (tyX11 k)) (n + 1) (z + 3) x0 x1 n) else some (.inl x1, S, M, n, z))
theorem mn_X6_all_5 {r : Nat ⊕ Nat} {rec : mSh → mMm → Nat → Nat → Nat → Option ((Nat ⊕ Nat) × mSh × mMm × Nat × Nat)} {S' : mSh} {M' : mMm} {n' z' : Nat} (hmr : ∀ {S : mSh} {M : mMm} {n z x0 : Nat} {r : Nat ⊕ Nat} {S' : mSh} {M' : mMm} {n' z' : Nat}, rec S M n z x0 = some (r, S', M', n', z') → n ≤ n' ∧ z ≤ z') : ∀ {t : Nat} {S : mSh} {M : mMm} {n z : Nat} {x0 : Nat} {x1 : Nat}, fb_X6_all_5 V rec t S M n z x0 x1 = some (r, S', M', n', z') → n ≤ n' ∧ z ≤ z' := by
  intro t
  induction t with
  | zero =>
    intro S M n z x0 x1 hF
    have hF : none = some (r, S', M', n', z') := hF
    cases hF
  | succ t ihm =>
    intro S M n z x0 x1 hF
    rw [fb_X6_all_5] at hF
    obtain ⟨v11, e12, hF⟩ := ob_s hF
    rcases (Decidable.em (v11 = (5 : Int32))).symm with c13 | c13
    · have hF := if_n c13 hF
      cases hF
      exact ⟨Nat.le_refl _, Nat.le_refl _⟩
    · have hF := if_p c13 hF
      obtain ⟨M16, e14, hF⟩ := ob_s hF
      have h9 := (mn_X6_all_20 (V := V) (rec := rec) @hmr (fb_X6_all_5 V rec t) @ihm) hF
      exact ⟨by omega, by omega⟩
theorem b_X6_all_5 {r : Nat ⊕ Nat} {S' : mSh} {M' : mMm} {n' z' : Nat} {frr lor : Nat} {rec : mSh → mMm → Nat → Nat → Nat → Option ((Nat ⊕ Nat) × mSh × mMm × Nat × Nat)} (hmr : ∀ {S : mSh} {M : mMm} {n z x0 : Nat} {r : Nat ⊕ Nat} {S' : mSh} {M' : mMm} {n' z' : Nat}, rec S M n z x0 = some (r, S', M', n', z') → n ≤ n' ∧ z ≤ z') (hrec : ∀ {S : mSh} {M : mMm} {n z x0 : Nat} {r : Nat ⊕ Nat} {S' : mSh} {M' : mMm} {n' z' : Nat}, rec S M n z x0 = some (r, S', M', n', z') → mXt l D n0 P yX6_one cX6_one 3 (some (.object "WindingSquare$Term")) frr lor (n' - n) (z' - z) [.ref x0] S M n (moR r) S' M' n') (hfl : 13 ≤ frr ∧ 332 ≤ lor) {nS zS : Nat} (hV : mV V n0 P) (hVs : mVs V n0 P) (hs : l.stackTraces = false) (hVx : mVx n0 P) (X : mCx D n0 P p m c cX6_all 2 s args yX6_all.cls meth (some (.object "WindingSquare$Term"))) (hX : ∀ x ∈ c.exceptionTable.toList, False) : ∀ t : Nat, ∀ (S : mSh) (M : mMm) (n z : Nat) (x0 : Nat) (x1 : Nat) (H : Heap) (locs : List Loc) (ls : Array Slot), nS ≤ n → zS ≤ z → mHp D n0 S M n s H locs → lv_has ls 2 [(0, .ref x0), (1, .ref x1)] → fb_X6_all_5 V rec t S M n z x0 x1 = some (r, S', M', n', z') → W p l e (Rm_X6_all frr lor (n' - nS) (z' - zS)) s m args below meth c H locs (n - nS) (z - zS) (mMX below D n0 (moR r) S' M' n' args s (n' - nS) (z' - zS)) (F0 m 5 ls []) := by
  have hx := X.1.1
  have hb := X.1.2.1
  have hown := X.1.2.2.2.1
  have hts := X.1.2.2.2.2
  intro t
  induction t with
  | zero =>
    intro S M n z x0 x1 H locs ls hn hz hp hl hF
    have hF : none = some (r, S', M', n', z') := hF
    cases hF
  | succ t ih =>
    intro S M n z x0 x1 H locs ls hn hz hp hl hF
    have ihm := @mn_X6_all_5 V r rec S' M' n' z' @hmr t
    have hm0 := mn_X6_all_5 (rec := rec) @hmr hF
    rw [fb_X6_all_5] at hF
    refine lv_aload_n hx hb dX6_all_5 rfl (lv_at hl 0 rfl) ?_
    obtain ⟨v11, e12, hF⟩ := ob_s hF
    refine m_getI X hp e12 kX6 (Nat.le_of_ble_eq_true rfl) q590 dX6_all_6 ?_
    refine lv_iconst (v := 5) hx hb dX6_all_9 (by decide) ?_
    refine lv_icmp_ne (tgt := 34) hx hb dX6_all_10 (by decide) (fun c13 => ?_) (fun c13 => ?_)
    · have hF := if_n c13 hF
      refine lv_aload_n hx hb dX6_all_34 rfl (lv_at hl 1 rfl) ?_
      cases hF
      exact xm_ret (m_aret X hp (Or.inl ⟨_, rfl⟩) dX6_all_35)
    · have hF := if_p c13 hF
      refine lv_aload_n hx hb dX6_all_13 rfl (lv_at hl 0 rfl) ?_
      obtain ⟨M16, e14, hF⟩ := ob_s hF
      refine m_callV (As := []) (rest := []) X hp (w_X6_next hVs e14) q621 q623 qs5 q148 q624 0 rfl ds_X6_next ⟨by show _ ≤ frr + 1; omega, by show _ ≤ lor + 22; omega⟩ 7 (T := TX6) (N := 10) rfl (by decide) (rI_s e12).1 hl.1 rfl (Nat.le_of_ble_eq_true rfl) dX6_all_14 ⟨by show _ + 0 ≤ n' - nS; omega, by show _ + 0 ≤ z' - zS; omega⟩ (fun H locs hp => ?_)
      have hm := (mn_X6_all_20 (V := V) (rec := rec) @hmr (fb_X6_all_5 V rec t) @ihm) hF
      refine m_new X hp kX11 q850 q851 q158 (by show _ ≤ n' - nS; omega) (by show _ ≤ z' - zS; omega) dX6_all_17 (fun H hp => ?_)
      refine W.widen (k := n + 1 - nS) (n := z + 3 - zS) (by omega) (by omega) ?_
      exact b_X6_all_20 (rec := rec) @hmr @hrec hfl hV hVs hs hVx X hX (fb_X6_all_5 V rec t) @ihm ih _ _ _ _ _ _ _ _ _ _ (by omega) (by omega) hp (lv_sub hl [0, 1] rfl) hF
def fb_X6_all_4 (V : Nat → Nat) (rec : mSh → mMm → Nat → Nat → Nat → Option ((Nat ⊕ Nat) × mSh × mMm × Nat × Nat)) (S : mSh) (M : mMm) (n z : Nat) (x0 : Nat) (y0 : Nat) : Option ((Nat ⊕ Nat) × mSh × mMm × Nat × Nat) := (fb_X6_all_5 V rec FU S M n z x0 y0)
theorem mn_X6_all_4 {r : Nat ⊕ Nat} {rec : mSh → mMm → Nat → Nat → Nat → Option ((Nat ⊕ Nat) × mSh × mMm × Nat × Nat)} {S' : mSh} {M' : mMm} {n' z' : Nat} (hmr : ∀ {S : mSh} {M : mMm} {n z x0 : Nat} {r : Nat ⊕ Nat} {S' : mSh} {M' : mMm} {n' z' : Nat}, rec S M n z x0 = some (r, S', M', n', z') → n ≤ n' ∧ z ≤ z') : ∀ {S : mSh} {M : mMm} {n z : Nat} {x0 : Nat} {y0 : Nat}, fb_X6_all_4 V rec S M n z x0 y0 = some (r, S', M', n', z') → n ≤ n' ∧ z ≤ z' := by
  intro S M n z x0 y0 hF
  unfold fb_X6_all_4 at hF
  have h9 := (mn_X6_all_5 (V := V) (rec := rec) @hmr) hF
  exact ⟨by omega, by omega⟩
theorem b_X6_all_4 {r : Nat ⊕ Nat} {S' : mSh} {M' : mMm} {n' z' : Nat} {frr lor : Nat} {rec : mSh → mMm → Nat → Nat → Nat → Option ((Nat ⊕ Nat) × mSh × mMm × Nat × Nat)} (hmr : ∀ {S : mSh} {M : mMm} {n z x0 : Nat} {r : Nat ⊕ Nat} {S' : mSh} {M' : mMm} {n' z' : Nat}, rec S M n z x0 = some (r, S', M', n', z') → n ≤ n' ∧ z ≤ z') (hrec : ∀ {S : mSh} {M : mMm} {n z x0 : Nat} {r : Nat ⊕ Nat} {S' : mSh} {M' : mMm} {n' z' : Nat}, rec S M n z x0 = some (r, S', M', n', z') → mXt l D n0 P yX6_one cX6_one 3 (some (.object "WindingSquare$Term")) frr lor (n' - n) (z' - z) [.ref x0] S M n (moR r) S' M' n') (hfl : 13 ≤ frr ∧ 332 ≤ lor) {nS zS : Nat} (hV : mV V n0 P) (hVs : mVs V n0 P) (hs : l.stackTraces = false) (hVx : mVx n0 P) (X : mCx D n0 P p m c cX6_all 2 s args yX6_all.cls meth (some (.object "WindingSquare$Term"))) (hX : ∀ x ∈ c.exceptionTable.toList, False) : ∀ (S : mSh) (M : mMm) (n z : Nat) (x0 : Nat) (y0 : Nat) (H : Heap) (locs : List Loc) (ls : Array Slot), nS ≤ n → zS ≤ z → mHp D n0 S M n s H locs → lv_has ls 2 [(0, .ref x0)] → fb_X6_all_4 V rec S M n z x0 y0 = some (r, S', M', n', z') → W p l e (Rm_X6_all frr lor (n' - nS) (z' - zS)) s m args below meth c H locs (n - nS) (z - zS) (mMX below D n0 (moR r) S' M' n' args s (n' - nS) (z' - zS)) (F0 m 4 ls [.ref y0]) := by
  have hx := X.1.1
  have hb := X.1.2.1
  have hown := X.1.2.2.2.1
  have hts := X.1.2.2.2.2
  intro S M n z x0 y0 H locs ls hn hz hp hl hF
  have hm0 := mn_X6_all_4 (rec := rec) @hmr hF
  unfold fb_X6_all_4 at hF
  refine lv_astore_n (lv' := [(1, .ref y0), (0, .ref x0)]) hx hb dX6_all_4 rfl hl (by decide) rfl (fun ls hl => ?_)
  exact b_X6_all_5 (rec := rec) @hmr @hrec hfl hV hVs hs hVx X hX _ _ _ _ _ _ _ _ _ _ (by omega) (by omega) hp (lv_sub hl [1, 0] rfl) hF
def fb_X6_all_0 (V : Nat → Nat) (rec : mSh → mMm → Nat → Nat → Nat → Option ((Nat ⊕ Nat) × mSh × mMm × Nat × Nat)) (S : mSh) (M : mMm) (n z : Nat) (x0 : Nat) : Option ((Nat ⊕ Nat) × mSh × mMm × Nat × Nat) := gd ((S x0).1 = 7) (ob (rec S M n z x0) fun ⟨o8, S5, M4, n6, z7⟩ => xk o8 S5 M4 n6 z7 fun v3 => (fb_X6_all_4 V rec S5 M4 n6 z7 x0 v3))
theorem mn_X6_all_0 {r : Nat ⊕ Nat} {rec : mSh → mMm → Nat → Nat → Nat → Option ((Nat ⊕ Nat) × mSh × mMm × Nat × Nat)} {S' : mSh} {M' : mMm} {n' z' : Nat} (hmr : ∀ {S : mSh} {M : mMm} {n z x0 : Nat} {r : Nat ⊕ Nat} {S' : mSh} {M' : mMm} {n' z' : Nat}, rec S M n z x0 = some (r, S', M', n', z') → n ≤ n' ∧ z ≤ z') : ∀ {S : mSh} {M : mMm} {n z : Nat} {x0 : Nat}, fb_X6_all_0 V rec S M n z x0 = some (r, S', M', n', z') → n ≤ n' ∧ z ≤ z' := by
  intro S M n z x0 hF
  unfold fb_X6_all_0 at hF
  obtain ⟨g1, hF⟩ := gd_s hF
  obtain ⟨⟨o8, S5, M4, n6, z7⟩, e2, hF⟩ := ob_s hF
  have hc := hmr e2
  rcases xk_s hF with ⟨v3, h9, hF⟩ | ⟨q10, h9, hF⟩
  · subst h9
    have h9 := (mn_X6_all_4 (V := V) (rec := rec) @hmr) hF
    exact ⟨by omega, by omega⟩
  · subst h9
    cases hF
    exact ⟨by omega, by omega⟩
theorem b_X6_all_0 {r : Nat ⊕ Nat} {S' : mSh} {M' : mMm} {n' z' : Nat} {frr lor : Nat} {rec : mSh → mMm → Nat → Nat → Nat → Option ((Nat ⊕ Nat) × mSh × mMm × Nat × Nat)} (hmr : ∀ {S : mSh} {M : mMm} {n z x0 : Nat} {r : Nat ⊕ Nat} {S' : mSh} {M' : mMm} {n' z' : Nat}, rec S M n z x0 = some (r, S', M', n', z') → n ≤ n' ∧ z ≤ z') (hrec : ∀ {S : mSh} {M : mMm} {n z x0 : Nat} {r : Nat ⊕ Nat} {S' : mSh} {M' : mMm} {n' z' : Nat}, rec S M n z x0 = some (r, S', M', n', z') → mXt l D n0 P yX6_one cX6_one 3 (some (.object "WindingSquare$Term")) frr lor (n' - n) (z' - z) [.ref x0] S M n (moR r) S' M' n') (hfl : 13 ≤ frr ∧ 332 ≤ lor) {nS zS : Nat} (hV : mV V n0 P) (hVs : mVs V n0 P) (hs : l.stackTraces = false) (hVx : mVx n0 P) (X : mCx D n0 P p m c cX6_all 2 s args yX6_all.cls meth (some (.object "WindingSquare$Term"))) (hX : ∀ x ∈ c.exceptionTable.toList, False) : ∀ (S : mSh) (M : mMm) (n z : Nat) (x0 : Nat) (H : Heap) (locs : List Loc) (ls : Array Slot), nS ≤ n → zS ≤ z → mHp D n0 S M n s H locs → lv_has ls 2 [(0, .ref x0)] → fb_X6_all_0 V rec S M n z x0 = some (r, S', M', n', z') → W p l e (Rm_X6_all frr lor (n' - nS) (z' - zS)) s m args below meth c H locs (n - nS) (z - zS) (mMX below D n0 (moR r) S' M' n' args s (n' - nS) (z' - zS)) (F0 m 0 ls []) := by
  have hx := X.1.1
  have hb := X.1.2.1
  have hown := X.1.2.2.2.1
  have hts := X.1.2.2.2.2
  intro S M n z x0 H locs ls hn hz hp hl hF
  have hm0 := mn_X6_all_0 (rec := rec) @hmr hF
  unfold fb_X6_all_0 at hF
  refine lv_aload_n hx hb dX6_all_0 rfl (lv_at hl 0 rfl) ?_
  obtain ⟨g1, hF⟩ := gd_s hF
  obtain ⟨⟨o8, S5, M4, n6, z7⟩, e2, hF⟩ := ob_s hF
  have hc := hmr e2
  rcases xk_s hF with ⟨v3, h9, hF⟩ | ⟨q10, h9, hF⟩
  · subst h9
    have hm := (mn_X6_all_4 (V := V) (rec := rec) @hmr) hF
    refine xm_callV (As := []) (rest := []) X hp (hrec e2) q874 q876 qs23 q148 q877 0 rfl ds_X6_one ⟨by show _ ≤ frr + 1; omega, by show _ ≤ lor + 22; omega⟩ 7 (T := TX6) (N := 10) rfl (by decide) g1 hl.1 rfl (Nat.le_of_ble_eq_true rfl) dX6_all_1 ⟨by show _ ≤ n' - nS; omega, by show _ ≤ z' - zS; omega⟩ (fun H locs hp => ?_)
    refine W.widen (k := n6 - nS) (n := z7 - zS) (by omega) (by omega) ?_
    exact b_X6_all_4 (rec := rec) @hmr @hrec hfl hV hVs hs hVx X hX _ _ _ _ _ _ _ _ _ (by omega) (by omega) hp (lv_sub hl [0] rfl) hF
  · subst h9
    cases hF
    exact xm_callVT (As := []) (rest := []) X hX hp (hrec e2) q874 q876 qs23 q148 q877 0 rfl ds_X6_one ⟨by show _ ≤ frr + 1; omega, by show _ ≤ lor + 22; omega⟩ 7 (T := TX6) (N := 10) rfl (by decide) g1 hl.1 rfl (Nat.le_of_ble_eq_true rfl) dX6_all_1 ⟨by show _ ≤ n' - nS; omega, by show _ ≤ z' - zS; omega⟩ ⟨by omega, by omega⟩
def fo_X6_all (V : Nat → Nat) (rec : mSh → mMm → Nat → Nat → Nat → Option ((Nat ⊕ Nat) × mSh × mMm × Nat × Nat)) (S : mSh) (M : mMm) (n z : Nat) (x0 : Nat) : Option ((Nat ⊕ Nat) × mSh × mMm × Nat × Nat) := (fb_X6_all_0 V rec S M n z x0)
theorem mno_X6_all {x0 : Nat} {r : Nat ⊕ Nat} {rec : mSh → mMm → Nat → Nat → Nat → Option ((Nat ⊕ Nat) × mSh × mMm × Nat × Nat)} {S' : mSh} {M' : mMm} {n' z' : Nat} (hmr : ∀ {S : mSh} {M : mMm} {n z x0 : Nat} {r : Nat ⊕ Nat} {S' : mSh} {M' : mMm} {n' z' : Nat}, rec S M n z x0 = some (r, S', M', n', z') → n ≤ n' ∧ z ≤ z') {S : mSh} {M : mMm} {n z : Nat} (hF : fo_X6_all V rec S M n z x0 = some (r, S', M', n', z')) : n ≤ n' ∧ z ≤ z' := by
  unfold fo_X6_all at hF
  exact mn_X6_all_0 (rec := rec) @hmr hF
theorem wo_X6_all {x0 : Nat} {r : Nat ⊕ Nat} {S' : mSh} {M' : mMm} {n' z' : Nat} {S : mSh} {M : mMm} {n z : Nat} {frr lor : Nat} {rec : mSh → mMm → Nat → Nat → Nat → Option ((Nat ⊕ Nat) × mSh × mMm × Nat × Nat)} (hmr : ∀ {S : mSh} {M : mMm} {n z x0 : Nat} {r : Nat ⊕ Nat} {S' : mSh} {M' : mMm} {n' z' : Nat}, rec S M n z x0 = some (r, S', M', n', z') → n ≤ n' ∧ z ≤ z') (hrec : ∀ {S : mSh} {M : mMm} {n z x0 : Nat} {r : Nat ⊕ Nat} {S' : mSh} {M' : mMm} {n' z' : Nat}, rec S M n z x0 = some (r, S', M', n', z') → mXt l D n0 P yX6_one cX6_one 3 (some (.object "WindingSquare$Term")) frr lor (n' - n) (z' - z) [.ref x0] S M n (moR r) S' M' n') (hfl : 13 ≤ frr ∧ 332 ≤ lor) (hV : mV V n0 P) (hVs : mVs V n0 P) (hs : l.stackTraces = false) (hVx : mVx n0 P) (hF : fo_X6_all V rec S M n z x0 = some (r, S', M', n', z')) : mXt l D n0 P yX6_all cX6_all 2 (some (.object "WindingSquare$Term")) (frr + 1) (lor + 22) (n' - n) (z' - z) [.ref x0] S M n (moR r) S' M' n' := by
  refine m_ofX (by decide) (Nat.le_of_ble_eq_true rfl) (fun p e s m below meth c X hX hp ls hl => ?_)
  unfold fo_X6_all at hF
  refine W.widen (k := n - n) (n := z - z) (by omega) (by omega) ?_
  exact b_X6_all_0 (rec := rec) @hmr @hrec hfl hV hVs hs hVx X hX _ _ _ _ _ _ _ _ (Nat.le_refl _) (Nat.le_refl _) hp hl hF
end
section
variable {l : Launch} {D : va_G} {n0 : Nat} {P : mP} {V : Nat → Nat} {p : Program} {e : Env} {s : State} {m : MethodId} {args : Array Value} {below : List Frame} {meth : Method} {c : Code}
abbrev Rm_X6_any (frr lor mc ms : Nat) : Room := { frames := frr + 2, cells := mc, slots := ms, locals := lor + 43 }
def fb_X6_any_27 (V : Nat → Nat) (rec : mSh → mMm → Nat → Nat → Nat → Option ((Nat ⊕ Nat) × mSh × mMm × Nat × Nat)) (k5 : mSh → mMm → Nat → Nat → Nat → Nat → Option ((Nat ⊕ Nat) × mSh × mMm × Nat × Nat)) (S : mSh) (M : mMm) (n z : Nat) (x0 : Nat) (y0 : Nat) (y1 : Int32) (y2 : Nat) (y3 : Nat) (y4 : Nat) : Option ((Nat ⊕ Nat) × mSh × mMm × Nat × Nat) := ob (f_X11_init S M y3 y2 y1 y0) fun M29 => (k5 S M29 n z x0 y4)
theorem mn_X6_any_27 {r : Nat ⊕ Nat} {rec : mSh → mMm → Nat → Nat → Nat → Option ((Nat ⊕ Nat) × mSh × mMm × Nat × Nat)} {S' : mSh} {M' : mMm} {n' z' : Nat} (hmr : ∀ {S : mSh} {M : mMm} {n z x0 : Nat} {r : Nat ⊕ Nat} {S' : mSh} {M' : mMm} {n' z' : Nat}, rec S M n z x0 = some (r, S', M', n', z') → n ≤ n' ∧ z ≤ z') (k5 : mSh → mMm → Nat → Nat → Nat → Nat → Option ((Nat ⊕ Nat) × mSh × mMm × Nat × Nat)) (hmk5 : ∀ {S : mSh} {M : mMm} {n z : Nat} {x0 : Nat} {x1 : Nat}, k5 S M n z x0 x1 = some (r, S', M', n', z') → n ≤ n' ∧ z ≤ z') : ∀ {S : mSh} {M : mMm} {n z : Nat} {x0 : Nat} {y0 : Nat} {y1 : Int32} {y2 : Nat} {y3 : Nat} {y4 : Nat}, fb_X6_any_27 V rec k5 S M n z x0 y0 y1 y2 y3 y4 = some (r, S', M', n', z') → n ≤ n' ∧ z ≤ z' := by
  intro S M n z x0 y0 y1 y2 y3 y4 hF
  unfold fb_X6_any_27 at hF
  obtain ⟨M29, e27, hF⟩ := ob_s hF
  have h9 := hmk5 hF
  exact ⟨by omega, by omega⟩
theorem b_X6_any_27 {r : Nat ⊕ Nat} {S' : mSh} {M' : mMm} {n' z' : Nat} {frr lor : Nat} {rec : mSh → mMm → Nat → Nat → Nat → Option ((Nat ⊕ Nat) × mSh × mMm × Nat × Nat)} (hmr : ∀ {S : mSh} {M : mMm} {n z x0 : Nat} {r : Nat ⊕ Nat} {S' : mSh} {M' : mMm} {n' z' : Nat}, rec S M n z x0 = some (r, S', M', n', z') → n ≤ n' ∧ z ≤ z') (hrec : ∀ {S : mSh} {M : mMm} {n z x0 : Nat} {r : Nat ⊕ Nat} {S' : mSh} {M' : mMm} {n' z' : Nat}, rec S M n z x0 = some (r, S', M', n', z') → mXt l D n0 P yX6_one cX6_one 3 (some (.object "WindingSquare$Term")) frr lor (n' - n) (z' - z) [.ref x0] S M n (moR r) S' M' n') (hfl : 13 ≤ frr ∧ 332 ≤ lor) {nS zS : Nat} (hV : mV V n0 P) (hVs : mVs V n0 P) (hs : l.stackTraces = false) (hVx : mVx n0 P) (X : mCx D n0 P p m c cX6_any 2 s args yX6_any.cls meth (some (.object "WindingSquare$Term"))) (hX : ∀ x ∈ c.exceptionTable.toList, False) (k5 : mSh → mMm → Nat → Nat → Nat → Nat → Option ((Nat ⊕ Nat) × mSh × mMm × Nat × Nat)) (hmk5 : ∀ {S : mSh} {M : mMm} {n z : Nat} {x0 : Nat} {x1 : Nat}, k5 S M n z x0 x1 = some (r, S', M', n', z') → n ≤ n' ∧ z ≤ z') (hk5 : ∀ (S : mSh) (M : mMm) (n z : Nat) (x0 : Nat) (x1 : Nat) (H : Heap) (locs : List Loc) (ls : Array Slot), nS ≤ n → zS ≤ z → mHp D n0 S M n s H locs → lv_has ls 2 [(0, .ref x0), (1, .ref x1)] → k5 S M n z x0 x1 = some (r, S', M', n', z') → W p l e (Rm_X6_any frr lor (n' - nS) (z' - zS)) s m args below meth c H locs (n - nS) (z - zS) (mMX below D n0 (moR r) S' M' n' args s (n' - nS) (z' - zS)) (F0 m 5 ls [])) : ∀ (S : mSh) (M : mMm) (n z : Nat) (x0 : Nat) (y0 : Nat) (y1 : Int32) (y2 : Nat) (y3 : Nat) (y4 : Nat) (H : Heap) (locs : List Loc) (ls : Array Slot), nS ≤ n → zS ≤ z → mHp D n0 S M n s H locs → lv_has ls 2 [(0, .ref x0)] → fb_X6_any_27 V rec k5 S M n z x0 y0 y1 y2 y3 y4 = some (r, S', M', n', z') → W p l e (Rm_X6_any frr lor (n' - nS) (z' - zS)) s m args below meth c H locs (n - nS) (z - zS) (mMX below D n0 (moR r) S' M' n' args s (n' - nS) (z' - zS)) (F0 m 27 ls [.ref y0, .int y1, .ref y2, .ref y3, .ref y4]) := by
  have hx := X.1.1
  have hb := X.1.2.1
  have hown := X.1.2.2.2.1
  have hts := X.1.2.2.2.2
  intro S M n z x0 y0 y1 y2 y3 y4 H locs ls hn hz hp hl hF
  have hm0 := mn_X6_any_27 (rec := rec) @hmr _ hmk5 hF
  unfold fb_X6_any_27 at hF
  obtain ⟨M29, e27, hF⟩ := ob_s hF
  refine m_callI (As := [.ref y2, .int y1, .ref y0]) (rest := [.ref y4]) X hp (w_X11_init e27) q852 q853 q158 q854 rfl 3 rfl ds_X11_init ⟨by show _ ≤ frr + 2; omega, by show _ ≤ lor + 43; omega⟩ hl.1 rfl (Nat.le_of_ble_eq_true rfl) dX6_any_27 ⟨by show _ + 0 ≤ n' - nS; omega, by show _ + 0 ≤ z' - zS; omega⟩ (fun H locs hp => ?_)
  refine lv_astore_n (lv' := [(1, .ref y4), (0, .ref x0)]) hx hb dX6_any_30 rfl hl (by decide) rfl (fun ls hl => ?_)
  refine lv_goto (tgt := 5) hx hb dX6_any_31 (by decide) ?_
  exact hk5 _ _ _ _ _ _ _ _ _ (by omega) (by omega) hp (lv_sub hl [1, 0] rfl) hF
def fb_X6_any_20 (V : Nat → Nat) (rec : mSh → mMm → Nat → Nat → Nat → Option ((Nat ⊕ Nat) × mSh × mMm × Nat × Nat)) (k5 : mSh → mMm → Nat → Nat → Nat → Nat → Option ((Nat ⊕ Nat) × mSh × mMm × Nat × Nat)) (S : mSh) (M : mMm) (n z : Nat) (x0 : Nat) (x1 : Nat) (y0 : Nat) : Option ((Nat ⊕ Nat) × mSh × mMm × Nat × Nat) := gd ((S x0).1 = 7) (ob (fo_X6_all V rec S M n z x0) fun ⟨o24, S21, M20, n22, z23⟩ => xk o24 S21 M20 n22 z23 fun v19 => (fb_X6_any_27 V rec k5 S21 M20 n22 z23 x0 v19 (4 : Int32) x1 y0 y0))
theorem mn_X6_any_20 {r : Nat ⊕ Nat} {rec : mSh → mMm → Nat → Nat → Nat → Option ((Nat ⊕ Nat) × mSh × mMm × Nat × Nat)} {S' : mSh} {M' : mMm} {n' z' : Nat} (hmr : ∀ {S : mSh} {M : mMm} {n z x0 : Nat} {r : Nat ⊕ Nat} {S' : mSh} {M' : mMm} {n' z' : Nat}, rec S M n z x0 = some (r, S', M', n', z') → n ≤ n' ∧ z ≤ z') (k5 : mSh → mMm → Nat → Nat → Nat → Nat → Option ((Nat ⊕ Nat) × mSh × mMm × Nat × Nat)) (hmk5 : ∀ {S : mSh} {M : mMm} {n z : Nat} {x0 : Nat} {x1 : Nat}, k5 S M n z x0 x1 = some (r, S', M', n', z') → n ≤ n' ∧ z ≤ z') : ∀ {S : mSh} {M : mMm} {n z : Nat} {x0 : Nat} {x1 : Nat} {y0 : Nat}, fb_X6_any_20 V rec k5 S M n z x0 x1 y0 = some (r, S', M', n', z') → n ≤ n' ∧ z ≤ z' := by
  intro S M n z x0 x1 y0 hF
  unfold fb_X6_any_20 at hF
  obtain ⟨g17, hF⟩ := gd_s hF
  obtain ⟨⟨o24, S21, M20, n22, z23⟩, e18, hF⟩ := ob_s hF
  have hc := mno_X6_all (rec := rec) @hmr e18
  rcases xk_s hF with ⟨v19, h25, hF⟩ | ⟨q26, h25, hF⟩
  · subst h25
    have h9 := (mn_X6_any_27 (V := V) (rec := rec) @hmr k5 hmk5) hF
    exact ⟨by omega, by omega⟩
  · subst h25
    cases hF
    exact ⟨by omega, by omega⟩
theorem b_X6_any_20 {r : Nat ⊕ Nat} {S' : mSh} {M' : mMm} {n' z' : Nat} {frr lor : Nat} {rec : mSh → mMm → Nat → Nat → Nat → Option ((Nat ⊕ Nat) × mSh × mMm × Nat × Nat)} (hmr : ∀ {S : mSh} {M : mMm} {n z x0 : Nat} {r : Nat ⊕ Nat} {S' : mSh} {M' : mMm} {n' z' : Nat}, rec S M n z x0 = some (r, S', M', n', z') → n ≤ n' ∧ z ≤ z') (hrec : ∀ {S : mSh} {M : mMm} {n z x0 : Nat} {r : Nat ⊕ Nat} {S' : mSh} {M' : mMm} {n' z' : Nat}, rec S M n z x0 = some (r, S', M', n', z') → mXt l D n0 P yX6_one cX6_one 3 (some (.object "WindingSquare$Term")) frr lor (n' - n) (z' - z) [.ref x0] S M n (moR r) S' M' n') (hfl : 13 ≤ frr ∧ 332 ≤ lor) {nS zS : Nat} (hV : mV V n0 P) (hVs : mVs V n0 P) (hs : l.stackTraces = false) (hVx : mVx n0 P) (X : mCx D n0 P p m c cX6_any 2 s args yX6_any.cls meth (some (.object "WindingSquare$Term"))) (hX : ∀ x ∈ c.exceptionTable.toList, False) (k5 : mSh → mMm → Nat → Nat → Nat → Nat → Option ((Nat ⊕ Nat) × mSh × mMm × Nat × Nat)) (hmk5 : ∀ {S : mSh} {M : mMm} {n z : Nat} {x0 : Nat} {x1 : Nat}, k5 S M n z x0 x1 = some (r, S', M', n', z') → n ≤ n' ∧ z ≤ z') (hk5 : ∀ (S : mSh) (M : mMm) (n z : Nat) (x0 : Nat) (x1 : Nat) (H : Heap) (locs : List Loc) (ls : Array Slot), nS ≤ n → zS ≤ z → mHp D n0 S M n s H locs → lv_has ls 2 [(0, .ref x0), (1, .ref x1)] → k5 S M n z x0 x1 = some (r, S', M', n', z') → W p l e (Rm_X6_any frr lor (n' - nS) (z' - zS)) s m args below meth c H locs (n - nS) (z - zS) (mMX below D n0 (moR r) S' M' n' args s (n' - nS) (z' - zS)) (F0 m 5 ls [])) : ∀ (S : mSh) (M : mMm) (n z : Nat) (x0 : Nat) (x1 : Nat) (y0 : Nat) (H : Heap) (locs : List Loc) (ls : Array Slot), nS ≤ n → zS ≤ z → mHp D n0 S M n s H locs → lv_has ls 2 [(0, .ref x0), (1, .ref x1)] → fb_X6_any_20 V rec k5 S M n z x0 x1 y0 = some (r, S', M', n', z') → W p l e (Rm_X6_any frr lor (n' - nS) (z' - zS)) s m args below meth c H locs (n - nS) (z - zS) (mMX below D n0 (moR r) S' M' n' args s (n' - nS) (z' - zS)) (F0 m 20 ls [.ref y0]) := by
  have hx := X.1.1
  have hb := X.1.2.1
  have hown := X.1.2.2.2.1
  have hts := X.1.2.2.2.2
  intro S M n z x0 x1 y0 H locs ls hn hz hp hl hF
  have hm0 := mn_X6_any_20 (rec := rec) @hmr _ hmk5 hF
  unfold fb_X6_any_20 at hF
  refine lv_dup hx hb dX6_any_20 rfl ?_
  refine lv_aload_n hx hb dX6_any_21 rfl (lv_at hl 1 rfl) ?_
  refine lv_iconst (v := 4) hx hb dX6_any_22 (by decide) ?_
  refine lv_aload_n hx hb dX6_any_23 rfl (lv_at hl 0 rfl) ?_
  obtain ⟨g17, hF⟩ := gd_s hF
  obtain ⟨⟨o24, S21, M20, n22, z23⟩, e18, hF⟩ := ob_s hF
  have hc := mno_X6_all (rec := rec) @hmr e18
  rcases xk_s hF with ⟨v19, h25, hF⟩ | ⟨q26, h25, hF⟩
  · subst h25
    have hm := (mn_X6_any_27 (V := V) (rec := rec) @hmr k5 hmk5) hF
    refine xm_callV (As := []) (rest := [.int (4 : Int32), .ref x1, .ref y0, .ref y0]) X hp (wo_X6_all (rec := rec) @hmr @hrec hfl hV hVs hs hVx e18) q870 q872 qs22 q148 q873 0 rfl ds_X6_all ⟨by show _ ≤ frr + 2; omega, by show _ ≤ lor + 43; omega⟩ 7 (T := TX6) (N := 10) rfl (by decide) g17 hl.1 rfl (Nat.le_of_ble_eq_true rfl) dX6_any_24 ⟨by show _ ≤ n' - nS; omega, by show _ ≤ z' - zS; omega⟩ (fun H locs hp => ?_)
    refine W.widen (k := n22 - nS) (n := z23 - zS) (by omega) (by omega) ?_
    exact b_X6_any_27 (rec := rec) @hmr @hrec hfl hV hVs hs hVx X hX k5 hmk5 hk5 _ _ _ _ _ _ _ _ _ _ _ _ _ (by omega) (by omega) hp (lv_sub hl [0] rfl) hF
  · subst h25
    cases hF
    exact xm_callVT (As := []) (rest := [.int (4 : Int32), .ref x1, .ref y0, .ref y0]) X hX hp (wo_X6_all (rec := rec) @hmr @hrec hfl hV hVs hs hVx e18) q870 q872 qs22 q148 q873 0 rfl ds_X6_all ⟨by show _ ≤ frr + 2; omega, by show _ ≤ lor + 43; omega⟩ 7 (T := TX6) (N := 10) rfl (by decide) g17 hl.1 rfl (Nat.le_of_ble_eq_true rfl) dX6_any_24 ⟨by show _ ≤ n' - nS; omega, by show _ ≤ z' - zS; omega⟩ ⟨by omega, by omega⟩
def fb_X6_any_5 (V : Nat → Nat) (rec : mSh → mMm → Nat → Nat → Nat → Option ((Nat ⊕ Nat) × mSh × mMm × Nat × Nat)) : Nat → mSh → mMm → Nat → Nat → Nat → Nat → Option ((Nat ⊕ Nat) × mSh × mMm × Nat × Nat)
  | 0, _, _, _, _, _, _ => none
  | t + 1, S, M, n, z, x0, x1 => ob (rI S M x0 7 5) fun v11 => (if v11 = (4 : Int32) then ob (f_X6_next V S M x0) fun M16 => (fb_X6_any_20 V rec (fb_X6_any_5 V rec t) (mS1 S n (11, 0)) (mM1 M16 n fun k => defaultValue (tyX11 k)) (n + 1) (z + 3) x0 x1 n) else some (.inl x1, S, M, n, z))
theorem mn_X6_any_5 {r : Nat ⊕ Nat} {rec : mSh → mMm → Nat → Nat → Nat → Option ((Nat ⊕ Nat) × mSh × mMm × Nat × Nat)} {S' : mSh} {M' : mMm} {n' z' : Nat} (hmr : ∀ {S : mSh} {M : mMm} {n z x0 : Nat} {r : Nat ⊕ Nat} {S' : mSh} {M' : mMm} {n' z' : Nat}, rec S M n z x0 = some (r, S', M', n', z') → n ≤ n' ∧ z ≤ z') : ∀ {t : Nat} {S : mSh} {M : mMm} {n z : Nat} {x0 : Nat} {x1 : Nat}, fb_X6_any_5 V rec t S M n z x0 x1 = some (r, S', M', n', z') → n ≤ n' ∧ z ≤ z' := by
  intro t
  induction t with
  | zero =>
    intro S M n z x0 x1 hF
    have hF : none = some (r, S', M', n', z') := hF
    cases hF
  | succ t ihm =>
    intro S M n z x0 x1 hF
    rw [fb_X6_any_5] at hF
    obtain ⟨v11, e12, hF⟩ := ob_s hF
    rcases (Decidable.em (v11 = (4 : Int32))).symm with c13 | c13
    · have hF := if_n c13 hF
      cases hF
      exact ⟨Nat.le_refl _, Nat.le_refl _⟩
    · have hF := if_p c13 hF
      obtain ⟨M16, e14, hF⟩ := ob_s hF
      have h9 := (mn_X6_any_20 (V := V) (rec := rec) @hmr (fb_X6_any_5 V rec t) @ihm) hF
      exact ⟨by omega, by omega⟩
theorem b_X6_any_5 {r : Nat ⊕ Nat} {S' : mSh} {M' : mMm} {n' z' : Nat} {frr lor : Nat} {rec : mSh → mMm → Nat → Nat → Nat → Option ((Nat ⊕ Nat) × mSh × mMm × Nat × Nat)} (hmr : ∀ {S : mSh} {M : mMm} {n z x0 : Nat} {r : Nat ⊕ Nat} {S' : mSh} {M' : mMm} {n' z' : Nat}, rec S M n z x0 = some (r, S', M', n', z') → n ≤ n' ∧ z ≤ z') (hrec : ∀ {S : mSh} {M : mMm} {n z x0 : Nat} {r : Nat ⊕ Nat} {S' : mSh} {M' : mMm} {n' z' : Nat}, rec S M n z x0 = some (r, S', M', n', z') → mXt l D n0 P yX6_one cX6_one 3 (some (.object "WindingSquare$Term")) frr lor (n' - n) (z' - z) [.ref x0] S M n (moR r) S' M' n') (hfl : 13 ≤ frr ∧ 332 ≤ lor) {nS zS : Nat} (hV : mV V n0 P) (hVs : mVs V n0 P) (hs : l.stackTraces = false) (hVx : mVx n0 P) (X : mCx D n0 P p m c cX6_any 2 s args yX6_any.cls meth (some (.object "WindingSquare$Term"))) (hX : ∀ x ∈ c.exceptionTable.toList, False) : ∀ t : Nat, ∀ (S : mSh) (M : mMm) (n z : Nat) (x0 : Nat) (x1 : Nat) (H : Heap) (locs : List Loc) (ls : Array Slot), nS ≤ n → zS ≤ z → mHp D n0 S M n s H locs → lv_has ls 2 [(0, .ref x0), (1, .ref x1)] → fb_X6_any_5 V rec t S M n z x0 x1 = some (r, S', M', n', z') → W p l e (Rm_X6_any frr lor (n' - nS) (z' - zS)) s m args below meth c H locs (n - nS) (z - zS) (mMX below D n0 (moR r) S' M' n' args s (n' - nS) (z' - zS)) (F0 m 5 ls []) := by
  have hx := X.1.1
  have hb := X.1.2.1
  have hown := X.1.2.2.2.1
  have hts := X.1.2.2.2.2
  intro t
  induction t with
  | zero =>
    intro S M n z x0 x1 H locs ls hn hz hp hl hF
    have hF : none = some (r, S', M', n', z') := hF
    cases hF
  | succ t ih =>
    intro S M n z x0 x1 H locs ls hn hz hp hl hF
    have ihm := @mn_X6_any_5 V r rec S' M' n' z' @hmr t
    have hm0 := mn_X6_any_5 (rec := rec) @hmr hF
    rw [fb_X6_any_5] at hF
    refine lv_aload_n hx hb dX6_any_5 rfl (lv_at hl 0 rfl) ?_
    obtain ⟨v11, e12, hF⟩ := ob_s hF
    refine m_getI X hp e12 kX6 (Nat.le_of_ble_eq_true rfl) q590 dX6_any_6 ?_
    refine lv_iconst (v := 4) hx hb dX6_any_9 (by decide) ?_
    refine lv_icmp_ne (tgt := 34) hx hb dX6_any_10 (by decide) (fun c13 => ?_) (fun c13 => ?_)
    · have hF := if_n c13 hF
      refine lv_aload_n hx hb dX6_any_34 rfl (lv_at hl 1 rfl) ?_
      cases hF
      exact xm_ret (m_aret X hp (Or.inl ⟨_, rfl⟩) dX6_any_35)
    · have hF := if_p c13 hF
      refine lv_aload_n hx hb dX6_any_13 rfl (lv_at hl 0 rfl) ?_
      obtain ⟨M16, e14, hF⟩ := ob_s hF
      refine m_callV (As := []) (rest := []) X hp (w_X6_next hVs e14) q621 q623 qs5 q148 q624 0 rfl ds_X6_next ⟨by show _ ≤ frr + 2; omega, by show _ ≤ lor + 43; omega⟩ 7 (T := TX6) (N := 10) rfl (by decide) (rI_s e12).1 hl.1 rfl (Nat.le_of_ble_eq_true rfl) dX6_any_14 ⟨by show _ + 0 ≤ n' - nS; omega, by show _ + 0 ≤ z' - zS; omega⟩ (fun H locs hp => ?_)
      have hm := (mn_X6_any_20 (V := V) (rec := rec) @hmr (fb_X6_any_5 V rec t) @ihm) hF
      refine m_new X hp kX11 q850 q851 q158 (by show _ ≤ n' - nS; omega) (by show _ ≤ z' - zS; omega) dX6_any_17 (fun H hp => ?_)
      refine W.widen (k := n + 1 - nS) (n := z + 3 - zS) (by omega) (by omega) ?_
      exact b_X6_any_20 (rec := rec) @hmr @hrec hfl hV hVs hs hVx X hX (fb_X6_any_5 V rec t) @ihm ih _ _ _ _ _ _ _ _ _ _ (by omega) (by omega) hp (lv_sub hl [0, 1] rfl) hF
def fb_X6_any_4 (V : Nat → Nat) (rec : mSh → mMm → Nat → Nat → Nat → Option ((Nat ⊕ Nat) × mSh × mMm × Nat × Nat)) (S : mSh) (M : mMm) (n z : Nat) (x0 : Nat) (y0 : Nat) : Option ((Nat ⊕ Nat) × mSh × mMm × Nat × Nat) := (fb_X6_any_5 V rec FU S M n z x0 y0)
theorem mn_X6_any_4 {r : Nat ⊕ Nat} {rec : mSh → mMm → Nat → Nat → Nat → Option ((Nat ⊕ Nat) × mSh × mMm × Nat × Nat)} {S' : mSh} {M' : mMm} {n' z' : Nat} (hmr : ∀ {S : mSh} {M : mMm} {n z x0 : Nat} {r : Nat ⊕ Nat} {S' : mSh} {M' : mMm} {n' z' : Nat}, rec S M n z x0 = some (r, S', M', n', z') → n ≤ n' ∧ z ≤ z') : ∀ {S : mSh} {M : mMm} {n z : Nat} {x0 : Nat} {y0 : Nat}, fb_X6_any_4 V rec S M n z x0 y0 = some (r, S', M', n', z') → n ≤ n' ∧ z ≤ z' := by
  intro S M n z x0 y0 hF
  unfold fb_X6_any_4 at hF
  have h9 := (mn_X6_any_5 (V := V) (rec := rec) @hmr) hF
  exact ⟨by omega, by omega⟩
theorem b_X6_any_4 {r : Nat ⊕ Nat} {S' : mSh} {M' : mMm} {n' z' : Nat} {frr lor : Nat} {rec : mSh → mMm → Nat → Nat → Nat → Option ((Nat ⊕ Nat) × mSh × mMm × Nat × Nat)} (hmr : ∀ {S : mSh} {M : mMm} {n z x0 : Nat} {r : Nat ⊕ Nat} {S' : mSh} {M' : mMm} {n' z' : Nat}, rec S M n z x0 = some (r, S', M', n', z') → n ≤ n' ∧ z ≤ z') (hrec : ∀ {S : mSh} {M : mMm} {n z x0 : Nat} {r : Nat ⊕ Nat} {S' : mSh} {M' : mMm} {n' z' : Nat}, rec S M n z x0 = some (r, S', M', n', z') → mXt l D n0 P yX6_one cX6_one 3 (some (.object "WindingSquare$Term")) frr lor (n' - n) (z' - z) [.ref x0] S M n (moR r) S' M' n') (hfl : 13 ≤ frr ∧ 332 ≤ lor) {nS zS : Nat} (hV : mV V n0 P) (hVs : mVs V n0 P) (hs : l.stackTraces = false) (hVx : mVx n0 P) (X : mCx D n0 P p m c cX6_any 2 s args yX6_any.cls meth (some (.object "WindingSquare$Term"))) (hX : ∀ x ∈ c.exceptionTable.toList, False) : ∀ (S : mSh) (M : mMm) (n z : Nat) (x0 : Nat) (y0 : Nat) (H : Heap) (locs : List Loc) (ls : Array Slot), nS ≤ n → zS ≤ z → mHp D n0 S M n s H locs → lv_has ls 2 [(0, .ref x0)] → fb_X6_any_4 V rec S M n z x0 y0 = some (r, S', M', n', z') → W p l e (Rm_X6_any frr lor (n' - nS) (z' - zS)) s m args below meth c H locs (n - nS) (z - zS) (mMX below D n0 (moR r) S' M' n' args s (n' - nS) (z' - zS)) (F0 m 4 ls [.ref y0]) := by
  have hx := X.1.1
  have hb := X.1.2.1
  have hown := X.1.2.2.2.1
  have hts := X.1.2.2.2.2
  intro S M n z x0 y0 H locs ls hn hz hp hl hF
  have hm0 := mn_X6_any_4 (rec := rec) @hmr hF
  unfold fb_X6_any_4 at hF
  refine lv_astore_n (lv' := [(1, .ref y0), (0, .ref x0)]) hx hb dX6_any_4 rfl hl (by decide) rfl (fun ls hl => ?_)
  exact b_X6_any_5 (rec := rec) @hmr @hrec hfl hV hVs hs hVx X hX _ _ _ _ _ _ _ _ _ _ (by omega) (by omega) hp (lv_sub hl [1, 0] rfl) hF
def fb_X6_any_0 (V : Nat → Nat) (rec : mSh → mMm → Nat → Nat → Nat → Option ((Nat ⊕ Nat) × mSh × mMm × Nat × Nat)) (S : mSh) (M : mMm) (n z : Nat) (x0 : Nat) : Option ((Nat ⊕ Nat) × mSh × mMm × Nat × Nat) := gd ((S x0).1 = 7) (ob (fo_X6_all V rec S M n z x0) fun ⟨o8, S5, M4, n6, z7⟩ => xk o8 S5 M4 n6 z7 fun v3 => (fb_X6_any_4 V rec S5 M4 n6 z7 x0 v3))
theorem mn_X6_any_0 {r : Nat ⊕ Nat} {rec : mSh → mMm → Nat → Nat → Nat → Option ((Nat ⊕ Nat) × mSh × mMm × Nat × Nat)} {S' : mSh} {M' : mMm} {n' z' : Nat} (hmr : ∀ {S : mSh} {M : mMm} {n z x0 : Nat} {r : Nat ⊕ Nat} {S' : mSh} {M' : mMm} {n' z' : Nat}, rec S M n z x0 = some (r, S', M', n', z') → n ≤ n' ∧ z ≤ z') : ∀ {S : mSh} {M : mMm} {n z : Nat} {x0 : Nat}, fb_X6_any_0 V rec S M n z x0 = some (r, S', M', n', z') → n ≤ n' ∧ z ≤ z' := by
  intro S M n z x0 hF
  unfold fb_X6_any_0 at hF
  obtain ⟨g1, hF⟩ := gd_s hF
  obtain ⟨⟨o8, S5, M4, n6, z7⟩, e2, hF⟩ := ob_s hF
  have hc := mno_X6_all (rec := rec) @hmr e2
  rcases xk_s hF with ⟨v3, h9, hF⟩ | ⟨q10, h9, hF⟩
  · subst h9
    have h9 := (mn_X6_any_4 (V := V) (rec := rec) @hmr) hF
    exact ⟨by omega, by omega⟩
  · subst h9
    cases hF
    exact ⟨by omega, by omega⟩
theorem b_X6_any_0 {r : Nat ⊕ Nat} {S' : mSh} {M' : mMm} {n' z' : Nat} {frr lor : Nat} {rec : mSh → mMm → Nat → Nat → Nat → Option ((Nat ⊕ Nat) × mSh × mMm × Nat × Nat)} (hmr : ∀ {S : mSh} {M : mMm} {n z x0 : Nat} {r : Nat ⊕ Nat} {S' : mSh} {M' : mMm} {n' z' : Nat}, rec S M n z x0 = some (r, S', M', n', z') → n ≤ n' ∧ z ≤ z') (hrec : ∀ {S : mSh} {M : mMm} {n z x0 : Nat} {r : Nat ⊕ Nat} {S' : mSh} {M' : mMm} {n' z' : Nat}, rec S M n z x0 = some (r, S', M', n', z') → mXt l D n0 P yX6_one cX6_one 3 (some (.object "WindingSquare$Term")) frr lor (n' - n) (z' - z) [.ref x0] S M n (moR r) S' M' n') (hfl : 13 ≤ frr ∧ 332 ≤ lor) {nS zS : Nat} (hV : mV V n0 P) (hVs : mVs V n0 P) (hs : l.stackTraces = false) (hVx : mVx n0 P) (X : mCx D n0 P p m c cX6_any 2 s args yX6_any.cls meth (some (.object "WindingSquare$Term"))) (hX : ∀ x ∈ c.exceptionTable.toList, False) : ∀ (S : mSh) (M : mMm) (n z : Nat) (x0 : Nat) (H : Heap) (locs : List Loc) (ls : Array Slot), nS ≤ n → zS ≤ z → mHp D n0 S M n s H locs → lv_has ls 2 [(0, .ref x0)] → fb_X6_any_0 V rec S M n z x0 = some (r, S', M', n', z') → W p l e (Rm_X6_any frr lor (n' - nS) (z' - zS)) s m args below meth c H locs (n - nS) (z - zS) (mMX below D n0 (moR r) S' M' n' args s (n' - nS) (z' - zS)) (F0 m 0 ls []) := by
  have hx := X.1.1
  have hb := X.1.2.1
  have hown := X.1.2.2.2.1
  have hts := X.1.2.2.2.2
  intro S M n z x0 H locs ls hn hz hp hl hF
  have hm0 := mn_X6_any_0 (rec := rec) @hmr hF
  unfold fb_X6_any_0 at hF
  refine lv_aload_n hx hb dX6_any_0 rfl (lv_at hl 0 rfl) ?_
  obtain ⟨g1, hF⟩ := gd_s hF
  obtain ⟨⟨o8, S5, M4, n6, z7⟩, e2, hF⟩ := ob_s hF
  have hc := mno_X6_all (rec := rec) @hmr e2
  rcases xk_s hF with ⟨v3, h9, hF⟩ | ⟨q10, h9, hF⟩
  · subst h9
    have hm := (mn_X6_any_4 (V := V) (rec := rec) @hmr) hF
    refine xm_callV (As := []) (rest := []) X hp (wo_X6_all (rec := rec) @hmr @hrec hfl hV hVs hs hVx e2) q870 q872 qs22 q148 q873 0 rfl ds_X6_all ⟨by show _ ≤ frr + 2; omega, by show _ ≤ lor + 43; omega⟩ 7 (T := TX6) (N := 10) rfl (by decide) g1 hl.1 rfl (Nat.le_of_ble_eq_true rfl) dX6_any_1 ⟨by show _ ≤ n' - nS; omega, by show _ ≤ z' - zS; omega⟩ (fun H locs hp => ?_)
    refine W.widen (k := n6 - nS) (n := z7 - zS) (by omega) (by omega) ?_
    exact b_X6_any_4 (rec := rec) @hmr @hrec hfl hV hVs hs hVx X hX _ _ _ _ _ _ _ _ _ (by omega) (by omega) hp (lv_sub hl [0] rfl) hF
  · subst h9
    cases hF
    exact xm_callVT (As := []) (rest := []) X hX hp (wo_X6_all (rec := rec) @hmr @hrec hfl hV hVs hs hVx e2) q870 q872 qs22 q148 q873 0 rfl ds_X6_all ⟨by show _ ≤ frr + 2; omega, by show _ ≤ lor + 43; omega⟩ 7 (T := TX6) (N := 10) rfl (by decide) g1 hl.1 rfl (Nat.le_of_ble_eq_true rfl) dX6_any_1 ⟨by show _ ≤ n' - nS; omega, by show _ ≤ z' - zS; omega⟩ ⟨by omega, by omega⟩
def fo_X6_any (V : Nat → Nat) (rec : mSh → mMm → Nat → Nat → Nat → Option ((Nat ⊕ Nat) × mSh × mMm × Nat × Nat)) (S : mSh) (M : mMm) (n z : Nat) (x0 : Nat) : Option ((Nat ⊕ Nat) × mSh × mMm × Nat × Nat) := (fb_X6_any_0 V rec S M n z x0)
theorem mno_X6_any {x0 : Nat} {r : Nat ⊕ Nat} {rec : mSh → mMm → Nat → Nat → Nat → Option ((Nat ⊕ Nat) × mSh × mMm × Nat × Nat)} {S' : mSh} {M' : mMm} {n' z' : Nat} (hmr : ∀ {S : mSh} {M : mMm} {n z x0 : Nat} {r : Nat ⊕ Nat} {S' : mSh} {M' : mMm} {n' z' : Nat}, rec S M n z x0 = some (r, S', M', n', z') → n ≤ n' ∧ z ≤ z') {S : mSh} {M : mMm} {n z : Nat} (hF : fo_X6_any V rec S M n z x0 = some (r, S', M', n', z')) : n ≤ n' ∧ z ≤ z' := by
  unfold fo_X6_any at hF
  exact mn_X6_any_0 (rec := rec) @hmr hF
theorem wo_X6_any {x0 : Nat} {r : Nat ⊕ Nat} {S' : mSh} {M' : mMm} {n' z' : Nat} {S : mSh} {M : mMm} {n z : Nat} {frr lor : Nat} {rec : mSh → mMm → Nat → Nat → Nat → Option ((Nat ⊕ Nat) × mSh × mMm × Nat × Nat)} (hmr : ∀ {S : mSh} {M : mMm} {n z x0 : Nat} {r : Nat ⊕ Nat} {S' : mSh} {M' : mMm} {n' z' : Nat}, rec S M n z x0 = some (r, S', M', n', z') → n ≤ n' ∧ z ≤ z') (hrec : ∀ {S : mSh} {M : mMm} {n z x0 : Nat} {r : Nat ⊕ Nat} {S' : mSh} {M' : mMm} {n' z' : Nat}, rec S M n z x0 = some (r, S', M', n', z') → mXt l D n0 P yX6_one cX6_one 3 (some (.object "WindingSquare$Term")) frr lor (n' - n) (z' - z) [.ref x0] S M n (moR r) S' M' n') (hfl : 13 ≤ frr ∧ 332 ≤ lor) (hV : mV V n0 P) (hVs : mVs V n0 P) (hs : l.stackTraces = false) (hVx : mVx n0 P) (hF : fo_X6_any V rec S M n z x0 = some (r, S', M', n', z')) : mXt l D n0 P yX6_any cX6_any 2 (some (.object "WindingSquare$Term")) (frr + 2) (lor + 43) (n' - n) (z' - z) [.ref x0] S M n (moR r) S' M' n' := by
  refine m_ofX (by decide) (Nat.le_of_ble_eq_true rfl) (fun p e s m below meth c X hX hp ls hl => ?_)
  unfold fo_X6_any at hF
  refine W.widen (k := n - n) (n := z - z) (by omega) (by omega) ?_
  exact b_X6_any_0 (rec := rec) @hmr @hrec hfl hV hVs hs hVx X hX _ _ _ _ _ _ _ _ (Nat.le_refl _) (Nat.le_refl _) hp hl hF
end
section
variable {l : Launch} {D : va_G} {n0 : Nat} {P : mP} {V : Nat → Nat} {p : Program} {e : Env} {s : State} {m : MethodId} {args : Array Value} {below : List Frame} {meth : Method} {c : Code}
abbrev Rm_X6_opens (mc ms : Nat) : Room := { frames := 9, cells := mc, slots := ms, locals := 244 }
def fb_X6_opens_0 (V : Nat → Nat) (S : mSh) (M : mMm) (n z : Nat) (x0 : Nat) : Option ((Unit ⊕ Nat) × mSh × mMm × Nat × Nat) := ob (rI S M x0 7 7) fun v1 => (if v1 = (8 : Int32) then ob (rI S M x0 7 4) fun v11 => some (.inr n, mSF S n, mMF M n (3 : Int32) v11, n + 1, z + 8) else ob (rI S M x0 7 7) fun v4 => ob (wF S M x0 7 7 (.int (v4 + (1 : Int32)))) fun M6 => ob (f_X6_next V S M6 x0) fun M10 => some (.inl (), S, M10, n, z))
theorem mn_X6_opens_0 {r : Unit ⊕ Nat} {S' : mSh} {M' : mMm} {n' z' : Nat} : ∀ {S : mSh} {M : mMm} {n z : Nat} {x0 : Nat}, fb_X6_opens_0 V S M n z x0 = some (r, S', M', n', z') → n ≤ n' ∧ z ≤ z' := by
  intro S M n z x0 hF
  unfold fb_X6_opens_0 at hF
  obtain ⟨v1, e2, hF⟩ := ob_s hF
  rcases (Decidable.em (v1 = (8 : Int32))).symm with c3 | c3
  · have hF := if_n c3 hF
    obtain ⟨v4, e5, hF⟩ := ob_s hF
    obtain ⟨M6, e7, hF⟩ := ob_s hF
    obtain ⟨M10, e8, hF⟩ := ob_s hF
    cases hF
    exact ⟨Nat.le_refl _, Nat.le_refl _⟩
  · have hF := if_p c3 hF
    obtain ⟨v11, e12, hF⟩ := ob_s hF
    cases hF
    exact ⟨by omega, by omega⟩
theorem b_X6_opens_0 {r : Unit ⊕ Nat} {S' : mSh} {M' : mMm} {n' z' : Nat} {nS zS : Nat} (hV : mV V n0 P) (hVs : mVs V n0 P) (hs : l.stackTraces = false) (hVx : mVx n0 P) (X : mCx D n0 P p m c cX6_opens 1 s args yX6_opens.cls meth none) (hX : ∀ x ∈ c.exceptionTable.toList, False) : ∀ (S : mSh) (M : mMm) (n z : Nat) (x0 : Nat) (H : Heap) (locs : List Loc) (ls : Array Slot), nS ≤ n → zS ≤ z → mHp D n0 S M n s H locs → lv_has ls 1 [(0, .ref x0)] → fb_X6_opens_0 V S M n z x0 = some (r, S', M', n', z') → W p l e (Rm_X6_opens (n' - nS) (z' - zS)) s m args below meth c H locs (n - nS) (z - zS) (mMX below D n0 (moV r) S' M' n' args s (n' - nS) (z' - zS)) (F0 m 0 ls []) := by
  have hx := X.1.1
  have hb := X.1.2.1
  have hown := X.1.2.2.2.1
  have hts := X.1.2.2.2.2
  intro S M n z x0 H locs ls hn hz hp hl hF
  have hm0 := mn_X6_opens_0 hF
  unfold fb_X6_opens_0 at hF
  refine lv_aload_n hx hb dX6_opens_0 rfl (lv_at hl 0 rfl) ?_
  obtain ⟨v1, e2, hF⟩ := ob_s hF
  refine m_getI X hp e2 kX6 (Nat.le_of_ble_eq_true rfl) q592 dX6_opens_1 ?_
  refine lv_bipush (v := 8) hx hb dX6_opens_4 (by decide) ?_
  refine lv_icmp_ne (tgt := 22) hx hb dX6_opens_6 (by decide) (fun c3 => ?_) (fun c3 => ?_)
  · have hF := if_n c3 hF
    refine lv_aload_n hx hb dX6_opens_22 rfl (lv_at hl 0 rfl) ?_
    refine lv_dup hx hb dX6_opens_23 rfl ?_
    obtain ⟨v4, e5, hF⟩ := ob_s hF
    refine m_getI X hp e5 kX6 (Nat.le_of_ble_eq_true rfl) q592 dX6_opens_24 ?_
    refine lv_iconst (v := 1) hx hb dX6_opens_27 (by decide) ?_
    refine lv_iadd hx hb dX6_opens_28 ?_
    obtain ⟨M6, e7, hF⟩ := ob_s hF
    refine m_putW X hp e7 kX6 (Nat.le_of_ble_eq_true rfl) q592 rfl rfl rfl dX6_opens_29 (fun H locs hp => ?_)
    refine lv_aload_n hx hb dX6_opens_32 rfl (lv_at hl 0 rfl) ?_
    obtain ⟨M10, e8, hF⟩ := ob_s hF
    refine m_callV (As := []) (rest := []) X hp (w_X6_next hVs e8) q621 q623 qs5 q148 q624 0 rfl ds_X6_next ⟨Nat.le_of_ble_eq_true rfl, Nat.le_of_ble_eq_true rfl⟩ 7 (T := TX6) (N := 10) rfl (by decide) (wF_s e7).1 hl.1 rfl (Nat.le_of_ble_eq_true rfl) dX6_opens_33 ⟨by show _ + 0 ≤ n' - nS; omega, by show _ + 0 ≤ z' - zS; omega⟩ (fun H locs hp => ?_)
    cases hF
    exact xm_ret (m_vret X hp dX6_opens_36)
  · have hF := if_p c3 hF
    obtain ⟨v11, e12, hF⟩ := ob_s hF
    cases hF
    exact xm_throw (rest := []) (kd := 3) X hX hs hVx hp (lv_at hl 0 rfl) hl.1 (by decide) e12 dX6_opens_9 dX6_opens_12 dX6_opens_13 dX6_opens_14 dX6_opens_15 dX6_opens_18 dX6_opens_21 (Nat.le_of_ble_eq_true rfl) ⟨Nat.le_of_ble_eq_true rfl, Nat.le_of_ble_eq_true rfl⟩ ⟨by show _ ≤ n + 1 - nS; omega, by show _ ≤ z + 8 - zS; omega⟩ ⟨by omega, by omega⟩
def f_X6_opens (V : Nat → Nat) (S : mSh) (M : mMm) (n z : Nat) (x0 : Nat) : Option ((Unit ⊕ Nat) × mSh × mMm × Nat × Nat) := (fb_X6_opens_0 V S M n z x0)
theorem mn_X6_opens {x0 : Nat} {r : Unit ⊕ Nat} {S' : mSh} {M' : mMm} {n' z' : Nat} {S : mSh} {M : mMm} {n z : Nat} (hF : f_X6_opens V S M n z x0 = some (r, S', M', n', z')) : n ≤ n' ∧ z ≤ z' := by
  unfold f_X6_opens at hF
  exact mn_X6_opens_0 hF
theorem w_X6_opens {x0 : Nat} {r : Unit ⊕ Nat} {S' : mSh} {M' : mMm} {n' z' : Nat} {S : mSh} {M : mMm} {n z : Nat} (hV : mV V n0 P) (hVs : mVs V n0 P) (hs : l.stackTraces = false) (hVx : mVx n0 P) (hF : f_X6_opens V S M n z x0 = some (r, S', M', n', z')) : mXt l D n0 P yX6_opens cX6_opens 1 none 9 244 (n' - n) (z' - z) [.ref x0] S M n (moV r) S' M' n' := by
  refine m_ofX (by decide) (Nat.le_of_ble_eq_true rfl) (fun p e s m below meth c X hX hp ls hl => ?_)
  unfold f_X6_opens at hF
  refine W.widen (k := n - n) (n := z - z) (by omega) (by omega) ?_
  exact b_X6_opens_0 hV hVs hs hVx X hX _ _ _ _ _ _ _ _ (Nat.le_refl _) (Nat.le_refl _) hp hl hF
end
section
variable {l : Launch} {D : va_G} {n0 : Nat} {P : mP} {V : Nat → Nat} {p : Program} {e : Env} {s : State} {m : MethodId} {args : Array Value} {below : List Frame} {meth : Method} {c : Code}
abbrev Rm_X6_must (mc ms : Nat) : Room := { frames := 9, cells := mc, slots := ms, locals := 244 }
def fb_X6_must_0 (V : Nat → Nat) (S : mSh) (M : mMm) (n z : Nat) (x0 : Nat) (x1 : Int32) : Option ((Unit ⊕ Nat) × mSh × mMm × Nat × Nat) := ob (rI S M x0 7 5) fun v1 => (if v1 = x1 then ob (f_X6_next V S M x0) fun M6 => some (.inl (), S, M6, n, z) else ob (rI S M x0 7 4) fun v7 => some (.inr n, mSF S n, mMF M n (1 : Int32) v7, n + 1, z + 8))
theorem mn_X6_must_0 {r : Unit ⊕ Nat} {S' : mSh} {M' : mMm} {n' z' : Nat} : ∀ {S : mSh} {M : mMm} {n z : Nat} {x0 : Nat} {x1 : Int32}, fb_X6_must_0 V S M n z x0 x1 = some (r, S', M', n', z') → n ≤ n' ∧ z ≤ z' := by
  intro S M n z x0 x1 hF
  unfold fb_X6_must_0 at hF
  obtain ⟨v1, e2, hF⟩ := ob_s hF
  rcases Decidable.em (v1 = x1) with c3 | c3
  · have hF := if_p c3 hF
    obtain ⟨M6, e4, hF⟩ := ob_s hF
    cases hF
    exact ⟨Nat.le_refl _, Nat.le_refl _⟩
  · have hF := if_n c3 hF
    obtain ⟨v7, e8, hF⟩ := ob_s hF
    cases hF
    exact ⟨by omega, by omega⟩
theorem b_X6_must_0 {r : Unit ⊕ Nat} {S' : mSh} {M' : mMm} {n' z' : Nat} {nS zS : Nat} (hV : mV V n0 P) (hVs : mVs V n0 P) (hs : l.stackTraces = false) (hVx : mVx n0 P) (X : mCx D n0 P p m c cX6_must 2 s args yX6_must.cls meth none) (hX : ∀ x ∈ c.exceptionTable.toList, False) : ∀ (S : mSh) (M : mMm) (n z : Nat) (x0 : Nat) (x1 : Int32) (H : Heap) (locs : List Loc) (ls : Array Slot), nS ≤ n → zS ≤ z → mHp D n0 S M n s H locs → lv_has ls 2 [(0, .ref x0), (1, .int x1)] → fb_X6_must_0 V S M n z x0 x1 = some (r, S', M', n', z') → W p l e (Rm_X6_must (n' - nS) (z' - zS)) s m args below meth c H locs (n - nS) (z - zS) (mMX below D n0 (moV r) S' M' n' args s (n' - nS) (z' - zS)) (F0 m 0 ls []) := by
  have hx := X.1.1
  have hb := X.1.2.1
  have hown := X.1.2.2.2.1
  have hts := X.1.2.2.2.2
  intro S M n z x0 x1 H locs ls hn hz hp hl hF
  have hm0 := mn_X6_must_0 hF
  unfold fb_X6_must_0 at hF
  refine lv_aload_n hx hb dX6_must_0 rfl (lv_at hl 0 rfl) ?_
  obtain ⟨v1, e2, hF⟩ := ob_s hF
  refine m_getI X hp e2 kX6 (Nat.le_of_ble_eq_true rfl) q590 dX6_must_1 ?_
  refine lv_iload_n hx hb dX6_must_4 rfl (lv_at hl 1 rfl) ?_
  refine lv_icmp_eq (tgt := 21) hx hb dX6_must_5 (by decide) (fun c3 => ?_) (fun c3 => ?_)
  · have hF := if_p c3 hF
    refine lv_aload_n hx hb dX6_must_21 rfl (lv_at hl 0 rfl) ?_
    obtain ⟨M6, e4, hF⟩ := ob_s hF
    refine m_callV (As := []) (rest := []) X hp (w_X6_next hVs e4) q621 q623 qs5 q148 q624 0 rfl ds_X6_next ⟨Nat.le_of_ble_eq_true rfl, Nat.le_of_ble_eq_true rfl⟩ 7 (T := TX6) (N := 10) rfl (by decide) (rI_s e2).1 hl.1 rfl (Nat.le_of_ble_eq_true rfl) dX6_must_22 ⟨by show _ + 0 ≤ n' - nS; omega, by show _ + 0 ≤ z' - zS; omega⟩ (fun H locs hp => ?_)
    cases hF
    exact xm_ret (m_vret X hp dX6_must_25)
  · have hF := if_n c3 hF
    obtain ⟨v7, e8, hF⟩ := ob_s hF
    cases hF
    exact xm_throw (rest := []) (kd := 1) X hX hs hVx hp (lv_at hl 0 rfl) hl.1 (by decide) e8 dX6_must_8 dX6_must_11 dX6_must_12 dX6_must_13 dX6_must_14 dX6_must_17 dX6_must_20 (Nat.le_of_ble_eq_true rfl) ⟨Nat.le_of_ble_eq_true rfl, Nat.le_of_ble_eq_true rfl⟩ ⟨by show _ ≤ n + 1 - nS; omega, by show _ ≤ z + 8 - zS; omega⟩ ⟨by omega, by omega⟩
def f_X6_must (V : Nat → Nat) (S : mSh) (M : mMm) (n z : Nat) (x0 : Nat) (x1 : Int32) : Option ((Unit ⊕ Nat) × mSh × mMm × Nat × Nat) := (fb_X6_must_0 V S M n z x0 x1)
theorem mn_X6_must {x0 : Nat} {x1 : Int32} {r : Unit ⊕ Nat} {S' : mSh} {M' : mMm} {n' z' : Nat} {S : mSh} {M : mMm} {n z : Nat} (hF : f_X6_must V S M n z x0 x1 = some (r, S', M', n', z')) : n ≤ n' ∧ z ≤ z' := by
  unfold f_X6_must at hF
  exact mn_X6_must_0 hF
theorem w_X6_must {x0 : Nat} {x1 : Int32} {r : Unit ⊕ Nat} {S' : mSh} {M' : mMm} {n' z' : Nat} {S : mSh} {M : mMm} {n z : Nat} (hV : mV V n0 P) (hVs : mVs V n0 P) (hs : l.stackTraces = false) (hVx : mVx n0 P) (hF : f_X6_must V S M n z x0 x1 = some (r, S', M', n', z')) : mXt l D n0 P yX6_must cX6_must 2 none 9 244 (n' - n) (z' - z) [.ref x0, .int x1] S M n (moV r) S' M' n' := by
  refine m_ofX (by decide) (Nat.le_of_ble_eq_true rfl) (fun p e s m below meth c X hX hp ls hl => ?_)
  unfold f_X6_must at hF
  refine W.widen (k := n - n) (n := z - z) (by omega) (by omega) ?_
  exact b_X6_must_0 hV hVs hs hVx X hX _ _ _ _ _ _ _ _ _ (Nat.le_refl _) (Nat.le_refl _) hp hl hF
end
section
variable {l : Launch} {D : va_G} {n0 : Nat} {P : mP} {V : Nat → Nat} {p : Program} {e : Env} {s : State} {m : MethodId} {args : Array Value} {below : List Frame} {meth : Method} {c : Code}
abbrev Rm_X6_one (frr lor mc ms : Nat) : Room := { frames := frr + 3, cells := mc, slots := ms, locals := lor + 64 }
def fb_X6_one_70 (V : Nat → Nat) (rec : mSh → mMm → Nat → Nat → Nat → Option ((Nat ⊕ Nat) × mSh × mMm × Nat × Nat)) (S : mSh) (M : mMm) (n z : Nat) (x0 : Nat) (x2 : Nat) : Option ((Nat ⊕ Nat) × mSh × mMm × Nat × Nat) := ob (rI S M x0 7 7) fun v88 => ob (wF S M x0 7 7 (.int (v88 - (1 : Int32)))) fun M90 => some (.inl x2, S, M90, n, z)
theorem mn_X6_one_70 {r : Nat ⊕ Nat} {rec : mSh → mMm → Nat → Nat → Nat → Option ((Nat ⊕ Nat) × mSh × mMm × Nat × Nat)} {S' : mSh} {M' : mMm} {n' z' : Nat} (hmr : ∀ {S : mSh} {M : mMm} {n z x0 : Nat} {r : Nat ⊕ Nat} {S' : mSh} {M' : mMm} {n' z' : Nat}, rec S M n z x0 = some (r, S', M', n', z') → n ≤ n' ∧ z ≤ z') : ∀ {S : mSh} {M : mMm} {n z : Nat} {x0 : Nat} {x2 : Nat}, fb_X6_one_70 V rec S M n z x0 x2 = some (r, S', M', n', z') → n ≤ n' ∧ z ≤ z' := by
  intro S M n z x0 x2 hF
  unfold fb_X6_one_70 at hF
  obtain ⟨v88, e89, hF⟩ := ob_s hF
  obtain ⟨M90, e91, hF⟩ := ob_s hF
  cases hF
  exact ⟨Nat.le_refl _, Nat.le_refl _⟩
theorem b_X6_one_70 {r : Nat ⊕ Nat} {S' : mSh} {M' : mMm} {n' z' : Nat} {frr lor : Nat} {rec : mSh → mMm → Nat → Nat → Nat → Option ((Nat ⊕ Nat) × mSh × mMm × Nat × Nat)} (hmr : ∀ {S : mSh} {M : mMm} {n z x0 : Nat} {r : Nat ⊕ Nat} {S' : mSh} {M' : mMm} {n' z' : Nat}, rec S M n z x0 = some (r, S', M', n', z') → n ≤ n' ∧ z ≤ z') (hrec : ∀ {S : mSh} {M : mMm} {n z x0 : Nat} {r : Nat ⊕ Nat} {S' : mSh} {M' : mMm} {n' z' : Nat}, rec S M n z x0 = some (r, S', M', n', z') → mXt l D n0 P yX6_one cX6_one 3 (some (.object "WindingSquare$Term")) frr lor (n' - n) (z' - z) [.ref x0] S M n (moR r) S' M' n') (hfl : 13 ≤ frr ∧ 332 ≤ lor) {nS zS : Nat} (hV : mV V n0 P) (hVs : mVs V n0 P) (hs : l.stackTraces = false) (hVx : mVx n0 P) (X : mCx D n0 P p m c cX6_one 3 s args yX6_one.cls meth (some (.object "WindingSquare$Term"))) (hX : ∀ x ∈ c.exceptionTable.toList, False) : ∀ (S : mSh) (M : mMm) (n z : Nat) (x0 : Nat) (x2 : Nat) (H : Heap) (locs : List Loc) (ls : Array Slot), nS ≤ n → zS ≤ z → mHp D n0 S M n s H locs → lv_has ls 3 [(0, .ref x0), (2, .ref x2)] → fb_X6_one_70 V rec S M n z x0 x2 = some (r, S', M', n', z') → W p l e (Rm_X6_one frr lor (n' - nS) (z' - zS)) s m args below meth c H locs (n - nS) (z - zS) (mMX below D n0 (moR r) S' M' n' args s (n' - nS) (z' - zS)) (F0 m 70 ls []) := by
  have hx := X.1.1
  have hb := X.1.2.1
  have hown := X.1.2.2.2.1
  have hts := X.1.2.2.2.2
  intro S M n z x0 x2 H locs ls hn hz hp hl hF
  have hm0 := mn_X6_one_70 (rec := rec) @hmr hF
  unfold fb_X6_one_70 at hF
  refine lv_aload_n hx hb dX6_one_70 rfl (lv_at hl 0 rfl) ?_
  refine lv_dup hx hb dX6_one_71 rfl ?_
  obtain ⟨v88, e89, hF⟩ := ob_s hF
  refine m_getI X hp e89 kX6 (Nat.le_of_ble_eq_true rfl) q592 dX6_one_72 ?_
  refine lv_iconst (v := 1) hx hb dX6_one_75 (by decide) ?_
  refine lv_isub hx hb dX6_one_76 ?_
  obtain ⟨M90, e91, hF⟩ := ob_s hF
  refine m_putW X hp e91 kX6 (Nat.le_of_ble_eq_true rfl) q592 rfl rfl rfl dX6_one_77 (fun H locs hp => ?_)
  refine lv_aload_n hx hb dX6_one_80 rfl (lv_at hl 1 rfl) ?_
  cases hF
  exact xm_ret (m_aret X hp (Or.inl ⟨_, rfl⟩) dX6_one_81)
def fb_X6_one_59 (V : Nat → Nat) (rec : mSh → mMm → Nat → Nat → Nat → Option ((Nat ⊕ Nat) × mSh × mMm × Nat × Nat)) (S : mSh) (M : mMm) (n z : Nat) (x0 : Nat) (x1 : Int32) (y0 : Nat) : Option ((Nat ⊕ Nat) × mSh × mMm × Nat × Nat) := (if x1 = 0 then gd ((S x0).1 = 7) (ob (f_X6_must V S M n z x0 (41 : Int32)) fun ⟨o85, S82, M81, n83, z84⟩ => xk o85 S82 M81 n83 z84 fun _ => (fb_X6_one_70 V rec S82 M81 n83 z84 x0 y0)) else (fb_X6_one_70 V rec S M n z x0 y0))
theorem mn_X6_one_59 {r : Nat ⊕ Nat} {rec : mSh → mMm → Nat → Nat → Nat → Option ((Nat ⊕ Nat) × mSh × mMm × Nat × Nat)} {S' : mSh} {M' : mMm} {n' z' : Nat} (hmr : ∀ {S : mSh} {M : mMm} {n z x0 : Nat} {r : Nat ⊕ Nat} {S' : mSh} {M' : mMm} {n' z' : Nat}, rec S M n z x0 = some (r, S', M', n', z') → n ≤ n' ∧ z ≤ z') : ∀ {S : mSh} {M : mMm} {n z : Nat} {x0 : Nat} {x1 : Int32} {y0 : Nat}, fb_X6_one_59 V rec S M n z x0 x1 y0 = some (r, S', M', n', z') → n ≤ n' ∧ z ≤ z' := by
  intro S M n z x0 x1 y0 hF
  unfold fb_X6_one_59 at hF
  rcases (Decidable.em (x1 = 0)).symm with c77 | c77
  · have hF := if_n c77 hF
    have h9 := (mn_X6_one_70 (V := V) (rec := rec) @hmr) hF
    exact ⟨by omega, by omega⟩
  · have hF := if_p c77 hF
    obtain ⟨g78, hF⟩ := gd_s hF
    obtain ⟨⟨o85, S82, M81, n83, z84⟩, e79, hF⟩ := ob_s hF
    have hc := mn_X6_must e79
    rcases xk_s hF with ⟨v80, h86, hF⟩ | ⟨q87, h86, hF⟩
    · subst h86
      have h9 := (mn_X6_one_70 (V := V) (rec := rec) @hmr) hF
      exact ⟨by omega, by omega⟩
    · subst h86
      cases hF
      exact ⟨by omega, by omega⟩
theorem b_X6_one_59 {r : Nat ⊕ Nat} {S' : mSh} {M' : mMm} {n' z' : Nat} {frr lor : Nat} {rec : mSh → mMm → Nat → Nat → Nat → Option ((Nat ⊕ Nat) × mSh × mMm × Nat × Nat)} (hmr : ∀ {S : mSh} {M : mMm} {n z x0 : Nat} {r : Nat ⊕ Nat} {S' : mSh} {M' : mMm} {n' z' : Nat}, rec S M n z x0 = some (r, S', M', n', z') → n ≤ n' ∧ z ≤ z') (hrec : ∀ {S : mSh} {M : mMm} {n z x0 : Nat} {r : Nat ⊕ Nat} {S' : mSh} {M' : mMm} {n' z' : Nat}, rec S M n z x0 = some (r, S', M', n', z') → mXt l D n0 P yX6_one cX6_one 3 (some (.object "WindingSquare$Term")) frr lor (n' - n) (z' - z) [.ref x0] S M n (moR r) S' M' n') (hfl : 13 ≤ frr ∧ 332 ≤ lor) {nS zS : Nat} (hV : mV V n0 P) (hVs : mVs V n0 P) (hs : l.stackTraces = false) (hVx : mVx n0 P) (X : mCx D n0 P p m c cX6_one 3 s args yX6_one.cls meth (some (.object "WindingSquare$Term"))) (hX : ∀ x ∈ c.exceptionTable.toList, False) : ∀ (S : mSh) (M : mMm) (n z : Nat) (x0 : Nat) (x1 : Int32) (y0 : Nat) (H : Heap) (locs : List Loc) (ls : Array Slot), nS ≤ n → zS ≤ z → mHp D n0 S M n s H locs → lv_has ls 3 [(0, .ref x0), (1, .int x1)] → fb_X6_one_59 V rec S M n z x0 x1 y0 = some (r, S', M', n', z') → W p l e (Rm_X6_one frr lor (n' - nS) (z' - zS)) s m args below meth c H locs (n - nS) (z - zS) (mMX below D n0 (moR r) S' M' n' args s (n' - nS) (z' - zS)) (F0 m 59 ls [.ref y0]) := by
  have hx := X.1.1
  have hb := X.1.2.1
  have hown := X.1.2.2.2.1
  have hts := X.1.2.2.2.2
  intro S M n z x0 x1 y0 H locs ls hn hz hp hl hF
  have hm0 := mn_X6_one_59 (rec := rec) @hmr hF
  unfold fb_X6_one_59 at hF
  refine lv_astore_n (lv' := [(2, .ref y0), (0, .ref x0), (1, .int x1)]) hx hb dX6_one_59 rfl hl (by decide) rfl (fun ls hl => ?_)
  refine lv_iload_n hx hb dX6_one_60 rfl (lv_at hl 2 rfl) ?_
  refine lv_if_ne (tgt := 70) hx hb dX6_one_61 (by decide) (fun c77 => ?_) (fun c77 => ?_)
  · have hF := if_n c77 hF
    exact b_X6_one_70 (rec := rec) @hmr @hrec hfl hV hVs hs hVx X hX _ _ _ _ _ _ _ _ _ (by omega) (by omega) hp (lv_sub hl [1, 0] rfl) hF
  · have hF := if_p c77 hF
    refine lv_aload_n hx hb dX6_one_64 rfl (lv_at hl 1 rfl) ?_
    refine lv_bipush (v := 41) hx hb dX6_one_65 (by decide) ?_
    obtain ⟨g78, hF⟩ := gd_s hF
    obtain ⟨⟨o85, S82, M81, n83, z84⟩, e79, hF⟩ := ob_s hF
    have hc := mn_X6_must e79
    rcases xk_s hF with ⟨v80, h86, hF⟩ | ⟨q87, h86, hF⟩
    · subst h86
      have hm := (mn_X6_one_70 (V := V) (rec := rec) @hmr) hF
      refine xm_callV (As := [.int (41 : Int32)]) (rest := []) X hp (w_X6_must hV hVs hs hVx e79) q892 q894 qs25 q148 q895 1 rfl ds_X6_must ⟨by show _ ≤ frr + 3; omega, by show _ ≤ lor + 64; omega⟩ 7 (T := TX6) (N := 10) rfl (by decide) g78 hl.1 rfl (Nat.le_of_ble_eq_true rfl) dX6_one_67 ⟨by show _ ≤ n' - nS; omega, by show _ ≤ z' - zS; omega⟩ (fun H locs hp => ?_)
      refine W.widen (k := n83 - nS) (n := z84 - zS) (by omega) (by omega) ?_
      exact b_X6_one_70 (rec := rec) @hmr @hrec hfl hV hVs hs hVx X hX _ _ _ _ _ _ _ _ _ (by omega) (by omega) hp (lv_sub hl [1, 0] rfl) hF
    · subst h86
      cases hF
      exact xm_callVT (As := [.int (41 : Int32)]) (rest := []) X hX hp (w_X6_must hV hVs hs hVx e79) q892 q894 qs25 q148 q895 1 rfl ds_X6_must ⟨by show _ ≤ frr + 3; omega, by show _ ≤ lor + 64; omega⟩ 7 (T := TX6) (N := 10) rfl (by decide) g78 hl.1 rfl (Nat.le_of_ble_eq_true rfl) dX6_one_67 ⟨by show _ ≤ n' - nS; omega, by show _ ≤ z' - zS; omega⟩ ⟨by omega, by omega⟩
def fb_X6_one_49 (V : Nat → Nat) (rec : mSh → mMm → Nat → Nat → Nat → Option ((Nat ⊕ Nat) × mSh × mMm × Nat × Nat)) (S : mSh) (M : mMm) (n z : Nat) (x0 : Nat) (x1 : Int32) (y0 : Nat) (y1 : Nat) (y2 : Nat) : Option ((Nat ⊕ Nat) × mSh × mMm × Nat × Nat) := ob (f_X12_init S M y1 y0) fun M76 => (fb_X6_one_59 V rec S M76 n z x0 x1 y2)
theorem mn_X6_one_49 {r : Nat ⊕ Nat} {rec : mSh → mMm → Nat → Nat → Nat → Option ((Nat ⊕ Nat) × mSh × mMm × Nat × Nat)} {S' : mSh} {M' : mMm} {n' z' : Nat} (hmr : ∀ {S : mSh} {M : mMm} {n z x0 : Nat} {r : Nat ⊕ Nat} {S' : mSh} {M' : mMm} {n' z' : Nat}, rec S M n z x0 = some (r, S', M', n', z') → n ≤ n' ∧ z ≤ z') : ∀ {S : mSh} {M : mMm} {n z : Nat} {x0 : Nat} {x1 : Int32} {y0 : Nat} {y1 : Nat} {y2 : Nat}, fb_X6_one_49 V rec S M n z x0 x1 y0 y1 y2 = some (r, S', M', n', z') → n ≤ n' ∧ z ≤ z' := by
  intro S M n z x0 x1 y0 y1 y2 hF
  unfold fb_X6_one_49 at hF
  obtain ⟨M76, e74, hF⟩ := ob_s hF
  have h9 := (mn_X6_one_59 (V := V) (rec := rec) @hmr) hF
  exact ⟨by omega, by omega⟩
theorem b_X6_one_49 {r : Nat ⊕ Nat} {S' : mSh} {M' : mMm} {n' z' : Nat} {frr lor : Nat} {rec : mSh → mMm → Nat → Nat → Nat → Option ((Nat ⊕ Nat) × mSh × mMm × Nat × Nat)} (hmr : ∀ {S : mSh} {M : mMm} {n z x0 : Nat} {r : Nat ⊕ Nat} {S' : mSh} {M' : mMm} {n' z' : Nat}, rec S M n z x0 = some (r, S', M', n', z') → n ≤ n' ∧ z ≤ z') (hrec : ∀ {S : mSh} {M : mMm} {n z x0 : Nat} {r : Nat ⊕ Nat} {S' : mSh} {M' : mMm} {n' z' : Nat}, rec S M n z x0 = some (r, S', M', n', z') → mXt l D n0 P yX6_one cX6_one 3 (some (.object "WindingSquare$Term")) frr lor (n' - n) (z' - z) [.ref x0] S M n (moR r) S' M' n') (hfl : 13 ≤ frr ∧ 332 ≤ lor) {nS zS : Nat} (hV : mV V n0 P) (hVs : mVs V n0 P) (hs : l.stackTraces = false) (hVx : mVx n0 P) (X : mCx D n0 P p m c cX6_one 3 s args yX6_one.cls meth (some (.object "WindingSquare$Term"))) (hX : ∀ x ∈ c.exceptionTable.toList, False) : ∀ (S : mSh) (M : mMm) (n z : Nat) (x0 : Nat) (x1 : Int32) (y0 : Nat) (y1 : Nat) (y2 : Nat) (H : Heap) (locs : List Loc) (ls : Array Slot), nS ≤ n → zS ≤ z → mHp D n0 S M n s H locs → lv_has ls 3 [(0, .ref x0), (1, .int x1)] → fb_X6_one_49 V rec S M n z x0 x1 y0 y1 y2 = some (r, S', M', n', z') → W p l e (Rm_X6_one frr lor (n' - nS) (z' - zS)) s m args below meth c H locs (n - nS) (z - zS) (mMX below D n0 (moR r) S' M' n' args s (n' - nS) (z' - zS)) (F0 m 49 ls [.ref y0, .ref y1, .ref y2]) := by
  have hx := X.1.1
  have hb := X.1.2.1
  have hown := X.1.2.2.2.1
  have hts := X.1.2.2.2.2
  intro S M n z x0 x1 y0 y1 y2 H locs ls hn hz hp hl hF
  have hm0 := mn_X6_one_49 (rec := rec) @hmr hF
  unfold fb_X6_one_49 at hF
  obtain ⟨M76, e74, hF⟩ := ob_s hF
  refine m_callI (As := [.ref y0]) (rest := [.ref y2]) X hp (w_X12_init e74) q884 q885 q159 q886 rfl 1 rfl ds_X12_init ⟨by show _ ≤ frr + 3; omega, by show _ ≤ lor + 64; omega⟩ hl.1 rfl (Nat.le_of_ble_eq_true rfl) dX6_one_49 ⟨by show _ + 0 ≤ n' - nS; omega, by show _ + 0 ≤ z' - zS; omega⟩ (fun H locs hp => ?_)
  refine lv_goto (tgt := 59) hx hb dX6_one_52 (by decide) ?_
  exact b_X6_one_59 (rec := rec) @hmr @hrec hfl hV hVs hs hVx X hX _ _ _ _ _ _ _ _ _ _ (by omega) (by omega) hp (lv_sub hl [0, 1] rfl) hF
def fb_X6_one_44 (V : Nat → Nat) (rec : mSh → mMm → Nat → Nat → Nat → Option ((Nat ⊕ Nat) × mSh × mMm × Nat × Nat)) (S : mSh) (M : mMm) (n z : Nat) (x0 : Nat) (x1 : Int32) (y0 : Nat) : Option ((Nat ⊕ Nat) × mSh × mMm × Nat × Nat) := gd ((S x0).1 = 7) (ob (rec S M n z x0) fun ⟨o71, S68, M67, n69, z70⟩ => xk o71 S68 M67 n69 z70 fun v66 => (fb_X6_one_49 V rec S68 M67 n69 z70 x0 x1 v66 y0 y0))
theorem mn_X6_one_44 {r : Nat ⊕ Nat} {rec : mSh → mMm → Nat → Nat → Nat → Option ((Nat ⊕ Nat) × mSh × mMm × Nat × Nat)} {S' : mSh} {M' : mMm} {n' z' : Nat} (hmr : ∀ {S : mSh} {M : mMm} {n z x0 : Nat} {r : Nat ⊕ Nat} {S' : mSh} {M' : mMm} {n' z' : Nat}, rec S M n z x0 = some (r, S', M', n', z') → n ≤ n' ∧ z ≤ z') : ∀ {S : mSh} {M : mMm} {n z : Nat} {x0 : Nat} {x1 : Int32} {y0 : Nat}, fb_X6_one_44 V rec S M n z x0 x1 y0 = some (r, S', M', n', z') → n ≤ n' ∧ z ≤ z' := by
  intro S M n z x0 x1 y0 hF
  unfold fb_X6_one_44 at hF
  obtain ⟨g64, hF⟩ := gd_s hF
  obtain ⟨⟨o71, S68, M67, n69, z70⟩, e65, hF⟩ := ob_s hF
  have hc := hmr e65
  rcases xk_s hF with ⟨v66, h72, hF⟩ | ⟨q73, h72, hF⟩
  · subst h72
    have h9 := (mn_X6_one_49 (V := V) (rec := rec) @hmr) hF
    exact ⟨by omega, by omega⟩
  · subst h72
    cases hF
    exact ⟨by omega, by omega⟩
theorem b_X6_one_44 {r : Nat ⊕ Nat} {S' : mSh} {M' : mMm} {n' z' : Nat} {frr lor : Nat} {rec : mSh → mMm → Nat → Nat → Nat → Option ((Nat ⊕ Nat) × mSh × mMm × Nat × Nat)} (hmr : ∀ {S : mSh} {M : mMm} {n z x0 : Nat} {r : Nat ⊕ Nat} {S' : mSh} {M' : mMm} {n' z' : Nat}, rec S M n z x0 = some (r, S', M', n', z') → n ≤ n' ∧ z ≤ z') (hrec : ∀ {S : mSh} {M : mMm} {n z x0 : Nat} {r : Nat ⊕ Nat} {S' : mSh} {M' : mMm} {n' z' : Nat}, rec S M n z x0 = some (r, S', M', n', z') → mXt l D n0 P yX6_one cX6_one 3 (some (.object "WindingSquare$Term")) frr lor (n' - n) (z' - z) [.ref x0] S M n (moR r) S' M' n') (hfl : 13 ≤ frr ∧ 332 ≤ lor) {nS zS : Nat} (hV : mV V n0 P) (hVs : mVs V n0 P) (hs : l.stackTraces = false) (hVx : mVx n0 P) (X : mCx D n0 P p m c cX6_one 3 s args yX6_one.cls meth (some (.object "WindingSquare$Term"))) (hX : ∀ x ∈ c.exceptionTable.toList, False) : ∀ (S : mSh) (M : mMm) (n z : Nat) (x0 : Nat) (x1 : Int32) (y0 : Nat) (H : Heap) (locs : List Loc) (ls : Array Slot), nS ≤ n → zS ≤ z → mHp D n0 S M n s H locs → lv_has ls 3 [(0, .ref x0), (1, .int x1)] → fb_X6_one_44 V rec S M n z x0 x1 y0 = some (r, S', M', n', z') → W p l e (Rm_X6_one frr lor (n' - nS) (z' - zS)) s m args below meth c H locs (n - nS) (z - zS) (mMX below D n0 (moR r) S' M' n' args s (n' - nS) (z' - zS)) (F0 m 44 ls [.ref y0]) := by
  have hx := X.1.1
  have hb := X.1.2.1
  have hown := X.1.2.2.2.1
  have hts := X.1.2.2.2.2
  intro S M n z x0 x1 y0 H locs ls hn hz hp hl hF
  have hm0 := mn_X6_one_44 (rec := rec) @hmr hF
  unfold fb_X6_one_44 at hF
  refine lv_dup hx hb dX6_one_44 rfl ?_
  refine lv_aload_n hx hb dX6_one_45 rfl (lv_at hl 0 rfl) ?_
  obtain ⟨g64, hF⟩ := gd_s hF
  obtain ⟨⟨o71, S68, M67, n69, z70⟩, e65, hF⟩ := ob_s hF
  have hc := hmr e65
  rcases xk_s hF with ⟨v66, h72, hF⟩ | ⟨q73, h72, hF⟩
  · subst h72
    have hm := (mn_X6_one_49 (V := V) (rec := rec) @hmr) hF
    refine xm_callV (As := []) (rest := [.ref y0, .ref y0]) X hp (hrec e65) q874 q876 qs23 q148 q877 0 rfl ds_X6_one ⟨by show _ ≤ frr + 3; omega, by show _ ≤ lor + 64; omega⟩ 7 (T := TX6) (N := 10) rfl (by decide) g64 hl.1 rfl (Nat.le_of_ble_eq_true rfl) dX6_one_46 ⟨by show _ ≤ n' - nS; omega, by show _ ≤ z' - zS; omega⟩ (fun H locs hp => ?_)
    refine W.widen (k := n69 - nS) (n := z70 - zS) (by omega) (by omega) ?_
    exact b_X6_one_49 (rec := rec) @hmr @hrec hfl hV hVs hs hVx X hX _ _ _ _ _ _ _ _ _ _ _ _ (by omega) (by omega) hp (lv_sub hl [0, 1] rfl) hF
  · subst h72
    cases hF
    exact xm_callVT (As := []) (rest := [.ref y0, .ref y0]) X hX hp (hrec e65) q874 q876 qs23 q148 q877 0 rfl ds_X6_one ⟨by show _ ≤ frr + 3; omega, by show _ ≤ lor + 64; omega⟩ 7 (T := TX6) (N := 10) rfl (by decide) g64 hl.1 rfl (Nat.le_of_ble_eq_true rfl) dX6_one_46 ⟨by show _ ≤ n' - nS; omega, by show _ ≤ z' - zS; omega⟩ ⟨by omega, by omega⟩
def fb_X6_one_37 (V : Nat → Nat) (rec : mSh → mMm → Nat → Nat → Nat → Option ((Nat ⊕ Nat) × mSh × mMm × Nat × Nat)) (S : mSh) (M : mMm) (n z : Nat) (x0 : Nat) (x1 : Int32) : Option ((Nat ⊕ Nat) × mSh × mMm × Nat × Nat) := (if x1 = 0 then gd ((S x0).1 = 7) (ob (fo_X6_any V rec S M n z x0) fun ⟨o61, S58, M57, n59, z60⟩ => xk o61 S58 M57 n59 z60 fun v56 => (fb_X6_one_59 V rec S58 M57 n59 z60 x0 x1 v56)) else (fb_X6_one_44 V rec (mS1 S n (12, 0)) (mM1 M n fun k => defaultValue (tyX12 k)) (n + 1) (z + 1) x0 x1 n))
theorem mn_X6_one_37 {r : Nat ⊕ Nat} {rec : mSh → mMm → Nat → Nat → Nat → Option ((Nat ⊕ Nat) × mSh × mMm × Nat × Nat)} {S' : mSh} {M' : mMm} {n' z' : Nat} (hmr : ∀ {S : mSh} {M : mMm} {n z x0 : Nat} {r : Nat ⊕ Nat} {S' : mSh} {M' : mMm} {n' z' : Nat}, rec S M n z x0 = some (r, S', M', n', z') → n ≤ n' ∧ z ≤ z') : ∀ {S : mSh} {M : mMm} {n z : Nat} {x0 : Nat} {x1 : Int32}, fb_X6_one_37 V rec S M n z x0 x1 = some (r, S', M', n', z') → n ≤ n' ∧ z ≤ z' := by
  intro S M n z x0 x1 hF
  unfold fb_X6_one_37 at hF
  rcases Decidable.em (x1 = 0) with c53 | c53
  · have hF := if_p c53 hF
    obtain ⟨g54, hF⟩ := gd_s hF
    obtain ⟨⟨o61, S58, M57, n59, z60⟩, e55, hF⟩ := ob_s hF
    have hc := mno_X6_any (rec := rec) @hmr e55
    rcases xk_s hF with ⟨v56, h62, hF⟩ | ⟨q63, h62, hF⟩
    · subst h62
      have h9 := (mn_X6_one_59 (V := V) (rec := rec) @hmr) hF
      exact ⟨by omega, by omega⟩
    · subst h62
      cases hF
      exact ⟨by omega, by omega⟩
  · have hF := if_n c53 hF
    have h9 := (mn_X6_one_44 (V := V) (rec := rec) @hmr) hF
    exact ⟨by omega, by omega⟩
theorem b_X6_one_37 {r : Nat ⊕ Nat} {S' : mSh} {M' : mMm} {n' z' : Nat} {frr lor : Nat} {rec : mSh → mMm → Nat → Nat → Nat → Option ((Nat ⊕ Nat) × mSh × mMm × Nat × Nat)} (hmr : ∀ {S : mSh} {M : mMm} {n z x0 : Nat} {r : Nat ⊕ Nat} {S' : mSh} {M' : mMm} {n' z' : Nat}, rec S M n z x0 = some (r, S', M', n', z') → n ≤ n' ∧ z ≤ z') (hrec : ∀ {S : mSh} {M : mMm} {n z x0 : Nat} {r : Nat ⊕ Nat} {S' : mSh} {M' : mMm} {n' z' : Nat}, rec S M n z x0 = some (r, S', M', n', z') → mXt l D n0 P yX6_one cX6_one 3 (some (.object "WindingSquare$Term")) frr lor (n' - n) (z' - z) [.ref x0] S M n (moR r) S' M' n') (hfl : 13 ≤ frr ∧ 332 ≤ lor) {nS zS : Nat} (hV : mV V n0 P) (hVs : mVs V n0 P) (hs : l.stackTraces = false) (hVx : mVx n0 P) (X : mCx D n0 P p m c cX6_one 3 s args yX6_one.cls meth (some (.object "WindingSquare$Term"))) (hX : ∀ x ∈ c.exceptionTable.toList, False) : ∀ (S : mSh) (M : mMm) (n z : Nat) (x0 : Nat) (x1 : Int32) (H : Heap) (locs : List Loc) (ls : Array Slot), nS ≤ n → zS ≤ z → mHp D n0 S M n s H locs → lv_has ls 3 [(0, .ref x0), (1, .int x1)] → fb_X6_one_37 V rec S M n z x0 x1 = some (r, S', M', n', z') → W p l e (Rm_X6_one frr lor (n' - nS) (z' - zS)) s m args below meth c H locs (n - nS) (z - zS) (mMX below D n0 (moR r) S' M' n' args s (n' - nS) (z' - zS)) (F0 m 37 ls []) := by
  have hx := X.1.1
  have hb := X.1.2.1
  have hown := X.1.2.2.2.1
  have hts := X.1.2.2.2.2
  intro S M n z x0 x1 H locs ls hn hz hp hl hF
  have hm0 := mn_X6_one_37 (rec := rec) @hmr hF
  unfold fb_X6_one_37 at hF
  refine lv_iload_n hx hb dX6_one_37 rfl (lv_at hl 1 rfl) ?_
  refine lv_if_eq (tgt := 55) hx hb dX6_one_38 (by decide) (fun c53 => ?_) (fun c53 => ?_)
  · have hF := if_p c53 hF
    refine lv_aload_n hx hb dX6_one_55 rfl (lv_at hl 0 rfl) ?_
    obtain ⟨g54, hF⟩ := gd_s hF
    obtain ⟨⟨o61, S58, M57, n59, z60⟩, e55, hF⟩ := ob_s hF
    have hc := mno_X6_any (rec := rec) @hmr e55
    rcases xk_s hF with ⟨v56, h62, hF⟩ | ⟨q63, h62, hF⟩
    · subst h62
      have hm := (mn_X6_one_59 (V := V) (rec := rec) @hmr) hF
      refine xm_callV (As := []) (rest := []) X hp (wo_X6_any (rec := rec) @hmr @hrec hfl hV hVs hs hVx e55) q866 q868 qs21 q148 q869 0 rfl ds_X6_any ⟨by show _ ≤ frr + 3; omega, by show _ ≤ lor + 64; omega⟩ 7 (T := TX6) (N := 10) rfl (by decide) g54 hl.1 rfl (Nat.le_of_ble_eq_true rfl) dX6_one_56 ⟨by show _ ≤ n' - nS; omega, by show _ ≤ z' - zS; omega⟩ (fun H locs hp => ?_)
      refine W.widen (k := n59 - nS) (n := z60 - zS) (by omega) (by omega) ?_
      exact b_X6_one_59 (rec := rec) @hmr @hrec hfl hV hVs hs hVx X hX _ _ _ _ _ _ _ _ _ _ (by omega) (by omega) hp (lv_sub hl [0, 1] rfl) hF
    · subst h62
      cases hF
      exact xm_callVT (As := []) (rest := []) X hX hp (wo_X6_any (rec := rec) @hmr @hrec hfl hV hVs hs hVx e55) q866 q868 qs21 q148 q869 0 rfl ds_X6_any ⟨by show _ ≤ frr + 3; omega, by show _ ≤ lor + 64; omega⟩ 7 (T := TX6) (N := 10) rfl (by decide) g54 hl.1 rfl (Nat.le_of_ble_eq_true rfl) dX6_one_56 ⟨by show _ ≤ n' - nS; omega, by show _ ≤ z' - zS; omega⟩ ⟨by omega, by omega⟩
  · have hF := if_n c53 hF
    have hm := (mn_X6_one_44 (V := V) (rec := rec) @hmr) hF
    refine m_new X hp kX12 q882 q883 q159 (by show _ ≤ n' - nS; omega) (by show _ ≤ z' - zS; omega) dX6_one_41 (fun H hp => ?_)
    refine W.widen (k := n + 1 - nS) (n := z + 1 - zS) (by omega) (by omega) ?_
    exact b_X6_one_44 (rec := rec) @hmr @hrec hfl hV hVs hs hVx X hX _ _ _ _ _ _ _ _ _ _ (by omega) (by omega) hp (lv_sub hl [0, 1] rfl) hF
def fb_X6_one_32 (V : Nat → Nat) (rec : mSh → mMm → Nat → Nat → Nat → Option ((Nat ⊕ Nat) × mSh × mMm × Nat × Nat)) (S : mSh) (M : mMm) (n z : Nat) (x0 : Nat) (y0 : Int32) : Option ((Nat ⊕ Nat) × mSh × mMm × Nat × Nat) := gd ((S x0).1 = 7) (ob (f_X6_opens V S M n z x0) fun ⟨o50, S47, M46, n48, z49⟩ => xk o50 S47 M46 n48 z49 fun _ => (fb_X6_one_37 V rec S47 M46 n48 z49 x0 y0))
theorem mn_X6_one_32 {r : Nat ⊕ Nat} {rec : mSh → mMm → Nat → Nat → Nat → Option ((Nat ⊕ Nat) × mSh × mMm × Nat × Nat)} {S' : mSh} {M' : mMm} {n' z' : Nat} (hmr : ∀ {S : mSh} {M : mMm} {n z x0 : Nat} {r : Nat ⊕ Nat} {S' : mSh} {M' : mMm} {n' z' : Nat}, rec S M n z x0 = some (r, S', M', n', z') → n ≤ n' ∧ z ≤ z') : ∀ {S : mSh} {M : mMm} {n z : Nat} {x0 : Nat} {y0 : Int32}, fb_X6_one_32 V rec S M n z x0 y0 = some (r, S', M', n', z') → n ≤ n' ∧ z ≤ z' := by
  intro S M n z x0 y0 hF
  unfold fb_X6_one_32 at hF
  obtain ⟨g43, hF⟩ := gd_s hF
  obtain ⟨⟨o50, S47, M46, n48, z49⟩, e44, hF⟩ := ob_s hF
  have hc := mn_X6_opens e44
  rcases xk_s hF with ⟨v45, h51, hF⟩ | ⟨q52, h51, hF⟩
  · subst h51
    have h9 := (mn_X6_one_37 (V := V) (rec := rec) @hmr) hF
    exact ⟨by omega, by omega⟩
  · subst h51
    cases hF
    exact ⟨by omega, by omega⟩
theorem b_X6_one_32 {r : Nat ⊕ Nat} {S' : mSh} {M' : mMm} {n' z' : Nat} {frr lor : Nat} {rec : mSh → mMm → Nat → Nat → Nat → Option ((Nat ⊕ Nat) × mSh × mMm × Nat × Nat)} (hmr : ∀ {S : mSh} {M : mMm} {n z x0 : Nat} {r : Nat ⊕ Nat} {S' : mSh} {M' : mMm} {n' z' : Nat}, rec S M n z x0 = some (r, S', M', n', z') → n ≤ n' ∧ z ≤ z') (hrec : ∀ {S : mSh} {M : mMm} {n z x0 : Nat} {r : Nat ⊕ Nat} {S' : mSh} {M' : mMm} {n' z' : Nat}, rec S M n z x0 = some (r, S', M', n', z') → mXt l D n0 P yX6_one cX6_one 3 (some (.object "WindingSquare$Term")) frr lor (n' - n) (z' - z) [.ref x0] S M n (moR r) S' M' n') (hfl : 13 ≤ frr ∧ 332 ≤ lor) {nS zS : Nat} (hV : mV V n0 P) (hVs : mVs V n0 P) (hs : l.stackTraces = false) (hVx : mVx n0 P) (X : mCx D n0 P p m c cX6_one 3 s args yX6_one.cls meth (some (.object "WindingSquare$Term"))) (hX : ∀ x ∈ c.exceptionTable.toList, False) : ∀ (S : mSh) (M : mMm) (n z : Nat) (x0 : Nat) (y0 : Int32) (H : Heap) (locs : List Loc) (ls : Array Slot), nS ≤ n → zS ≤ z → mHp D n0 S M n s H locs → lv_has ls 3 [(0, .ref x0)] → fb_X6_one_32 V rec S M n z x0 y0 = some (r, S', M', n', z') → W p l e (Rm_X6_one frr lor (n' - nS) (z' - zS)) s m args below meth c H locs (n - nS) (z - zS) (mMX below D n0 (moR r) S' M' n' args s (n' - nS) (z' - zS)) (F0 m 32 ls [.int y0]) := by
  have hx := X.1.1
  have hb := X.1.2.1
  have hown := X.1.2.2.2.1
  have hts := X.1.2.2.2.2
  intro S M n z x0 y0 H locs ls hn hz hp hl hF
  have hm0 := mn_X6_one_32 (rec := rec) @hmr hF
  unfold fb_X6_one_32 at hF
  refine lv_istore_n (lv' := [(1, .int y0), (0, .ref x0)]) hx hb dX6_one_32 rfl hl (by decide) rfl (fun ls hl => ?_)
  refine lv_aload_n hx hb dX6_one_33 rfl (lv_at hl 1 rfl) ?_
  obtain ⟨g43, hF⟩ := gd_s hF
  obtain ⟨⟨o50, S47, M46, n48, z49⟩, e44, hF⟩ := ob_s hF
  have hc := mn_X6_opens e44
  rcases xk_s hF with ⟨v45, h51, hF⟩ | ⟨q52, h51, hF⟩
  · subst h51
    have hm := (mn_X6_one_37 (V := V) (rec := rec) @hmr) hF
    refine xm_callV (As := []) (rest := []) X hp (w_X6_opens hV hVs hs hVx e44) q878 q880 qs24 q148 q881 0 rfl ds_X6_opens ⟨by show _ ≤ frr + 3; omega, by show _ ≤ lor + 64; omega⟩ 7 (T := TX6) (N := 10) rfl (by decide) g43 hl.1 rfl (Nat.le_of_ble_eq_true rfl) dX6_one_34 ⟨by show _ ≤ n' - nS; omega, by show _ ≤ z' - zS; omega⟩ (fun H locs hp => ?_)
    refine W.widen (k := n48 - nS) (n := z49 - zS) (by omega) (by omega) ?_
    exact b_X6_one_37 (rec := rec) @hmr @hrec hfl hV hVs hs hVx X hX _ _ _ _ _ _ _ _ _ (by omega) (by omega) hp (lv_sub hl [1, 0] rfl) hF
  · subst h51
    cases hF
    exact xm_callVT (As := []) (rest := []) X hX hp (w_X6_opens hV hVs hs hVx e44) q878 q880 qs24 q148 q881 0 rfl ds_X6_opens ⟨by show _ ≤ frr + 3; omega, by show _ ≤ lor + 64; omega⟩ 7 (T := TX6) (N := 10) rfl (by decide) g43 hl.1 rfl (Nat.le_of_ble_eq_true rfl) dX6_one_34 ⟨by show _ ≤ n' - nS; omega, by show _ ≤ z' - zS; omega⟩ ⟨by omega, by omega⟩
def fb_X6_one_18 (V : Nat → Nat) (rec : mSh → mMm → Nat → Nat → Nat → Option ((Nat ⊕ Nat) × mSh × mMm × Nat × Nat)) (S : mSh) (M : mMm) (n z : Nat) (x0 : Nat) : Option ((Nat ⊕ Nat) × mSh × mMm × Nat × Nat) := ob (rI S M x0 7 5) fun v40 => (if v40 = (6 : Int32) then (fb_X6_one_32 V rec S M n z x0 (1 : Int32)) else (fb_X6_one_32 V rec S M n z x0 (0 : Int32)))
theorem mn_X6_one_18 {r : Nat ⊕ Nat} {rec : mSh → mMm → Nat → Nat → Nat → Option ((Nat ⊕ Nat) × mSh × mMm × Nat × Nat)} {S' : mSh} {M' : mMm} {n' z' : Nat} (hmr : ∀ {S : mSh} {M : mMm} {n z x0 : Nat} {r : Nat ⊕ Nat} {S' : mSh} {M' : mMm} {n' z' : Nat}, rec S M n z x0 = some (r, S', M', n', z') → n ≤ n' ∧ z ≤ z') : ∀ {S : mSh} {M : mMm} {n z : Nat} {x0 : Nat}, fb_X6_one_18 V rec S M n z x0 = some (r, S', M', n', z') → n ≤ n' ∧ z ≤ z' := by
  intro S M n z x0 hF
  unfold fb_X6_one_18 at hF
  obtain ⟨v40, e41, hF⟩ := ob_s hF
  rcases (Decidable.em (v40 = (6 : Int32))).symm with c42 | c42
  · have hF := if_n c42 hF
    have h9 := (mn_X6_one_32 (V := V) (rec := rec) @hmr) hF
    exact ⟨by omega, by omega⟩
  · have hF := if_p c42 hF
    have h9 := (mn_X6_one_32 (V := V) (rec := rec) @hmr) hF
    exact ⟨by omega, by omega⟩
theorem b_X6_one_18 {r : Nat ⊕ Nat} {S' : mSh} {M' : mMm} {n' z' : Nat} {frr lor : Nat} {rec : mSh → mMm → Nat → Nat → Nat → Option ((Nat ⊕ Nat) × mSh × mMm × Nat × Nat)} (hmr : ∀ {S : mSh} {M : mMm} {n z x0 : Nat} {r : Nat ⊕ Nat} {S' : mSh} {M' : mMm} {n' z' : Nat}, rec S M n z x0 = some (r, S', M', n', z') → n ≤ n' ∧ z ≤ z') (hrec : ∀ {S : mSh} {M : mMm} {n z x0 : Nat} {r : Nat ⊕ Nat} {S' : mSh} {M' : mMm} {n' z' : Nat}, rec S M n z x0 = some (r, S', M', n', z') → mXt l D n0 P yX6_one cX6_one 3 (some (.object "WindingSquare$Term")) frr lor (n' - n) (z' - z) [.ref x0] S M n (moR r) S' M' n') (hfl : 13 ≤ frr ∧ 332 ≤ lor) {nS zS : Nat} (hV : mV V n0 P) (hVs : mVs V n0 P) (hs : l.stackTraces = false) (hVx : mVx n0 P) (X : mCx D n0 P p m c cX6_one 3 s args yX6_one.cls meth (some (.object "WindingSquare$Term"))) (hX : ∀ x ∈ c.exceptionTable.toList, False) : ∀ (S : mSh) (M : mMm) (n z : Nat) (x0 : Nat) (H : Heap) (locs : List Loc) (ls : Array Slot), nS ≤ n → zS ≤ z → mHp D n0 S M n s H locs → lv_has ls 3 [(0, .ref x0)] → fb_X6_one_18 V rec S M n z x0 = some (r, S', M', n', z') → W p l e (Rm_X6_one frr lor (n' - nS) (z' - zS)) s m args below meth c H locs (n - nS) (z - zS) (mMX below D n0 (moR r) S' M' n' args s (n' - nS) (z' - zS)) (F0 m 18 ls []) := by
  have hx := X.1.1
  have hb := X.1.2.1
  have hown := X.1.2.2.2.1
  have hts := X.1.2.2.2.2
  intro S M n z x0 H locs ls hn hz hp hl hF
  have hm0 := mn_X6_one_18 (rec := rec) @hmr hF
  unfold fb_X6_one_18 at hF
  refine lv_aload_n hx hb dX6_one_18 rfl (lv_at hl 0 rfl) ?_
  obtain ⟨v40, e41, hF⟩ := ob_s hF
  refine m_getI X hp e41 kX6 (Nat.le_of_ble_eq_true rfl) q590 dX6_one_19 ?_
  refine lv_bipush (v := 6) hx hb dX6_one_22 (by decide) ?_
  refine lv_icmp_ne (tgt := 31) hx hb dX6_one_24 (by decide) (fun c42 => ?_) (fun c42 => ?_)
  · have hF := if_n c42 hF
    refine lv_iconst (v := 0) hx hb dX6_one_31 (by decide) ?_
    exact b_X6_one_32 (rec := rec) @hmr @hrec hfl hV hVs hs hVx X hX _ _ _ _ _ _ _ _ _ (by omega) (by omega) hp (lv_sub hl [0] rfl) hF
  · have hF := if_p c42 hF
    refine lv_iconst (v := 1) hx hb dX6_one_27 (by decide) ?_
    refine lv_goto (tgt := 32) hx hb dX6_one_28 (by decide) ?_
    exact b_X6_one_32 (rec := rec) @hmr @hrec hfl hV hVs hs hVx X hX _ _ _ _ _ _ _ _ _ (by omega) (by omega) hp (lv_sub hl [0] rfl) hF
def fb_X6_one_137 (V : Nat → Nat) (rec : mSh → mMm → Nat → Nat → Nat → Option ((Nat ⊕ Nat) × mSh × mMm × Nat × Nat)) (S : mSh) (M : mMm) (n z : Nat) (y0 : Nat) (y1 : Int32) (y2 : Nat) (y3 : Nat) (y4 : Nat) : Option ((Nat ⊕ Nat) × mSh × mMm × Nat × Nat) := ob (f_X11_init S M y3 y2 y1 y0) fun M39 => some (.inl y4, S, M39, n, z)
theorem mn_X6_one_137 {r : Nat ⊕ Nat} {rec : mSh → mMm → Nat → Nat → Nat → Option ((Nat ⊕ Nat) × mSh × mMm × Nat × Nat)} {S' : mSh} {M' : mMm} {n' z' : Nat} (hmr : ∀ {S : mSh} {M : mMm} {n z x0 : Nat} {r : Nat ⊕ Nat} {S' : mSh} {M' : mMm} {n' z' : Nat}, rec S M n z x0 = some (r, S', M', n', z') → n ≤ n' ∧ z ≤ z') : ∀ {S : mSh} {M : mMm} {n z : Nat} {y0 : Nat} {y1 : Int32} {y2 : Nat} {y3 : Nat} {y4 : Nat}, fb_X6_one_137 V rec S M n z y0 y1 y2 y3 y4 = some (r, S', M', n', z') → n ≤ n' ∧ z ≤ z' := by
  intro S M n z y0 y1 y2 y3 y4 hF
  unfold fb_X6_one_137 at hF
  obtain ⟨M39, e37, hF⟩ := ob_s hF
  cases hF
  exact ⟨Nat.le_refl _, Nat.le_refl _⟩
theorem b_X6_one_137 {r : Nat ⊕ Nat} {S' : mSh} {M' : mMm} {n' z' : Nat} {frr lor : Nat} {rec : mSh → mMm → Nat → Nat → Nat → Option ((Nat ⊕ Nat) × mSh × mMm × Nat × Nat)} (hmr : ∀ {S : mSh} {M : mMm} {n z x0 : Nat} {r : Nat ⊕ Nat} {S' : mSh} {M' : mMm} {n' z' : Nat}, rec S M n z x0 = some (r, S', M', n', z') → n ≤ n' ∧ z ≤ z') (hrec : ∀ {S : mSh} {M : mMm} {n z x0 : Nat} {r : Nat ⊕ Nat} {S' : mSh} {M' : mMm} {n' z' : Nat}, rec S M n z x0 = some (r, S', M', n', z') → mXt l D n0 P yX6_one cX6_one 3 (some (.object "WindingSquare$Term")) frr lor (n' - n) (z' - z) [.ref x0] S M n (moR r) S' M' n') (hfl : 13 ≤ frr ∧ 332 ≤ lor) {nS zS : Nat} (hV : mV V n0 P) (hVs : mVs V n0 P) (hs : l.stackTraces = false) (hVx : mVx n0 P) (X : mCx D n0 P p m c cX6_one 3 s args yX6_one.cls meth (some (.object "WindingSquare$Term"))) (hX : ∀ x ∈ c.exceptionTable.toList, False) : ∀ (S : mSh) (M : mMm) (n z : Nat) (y0 : Nat) (y1 : Int32) (y2 : Nat) (y3 : Nat) (y4 : Nat) (H : Heap) (locs : List Loc) (ls : Array Slot), nS ≤ n → zS ≤ z → mHp D n0 S M n s H locs → lv_has ls 3 [] → fb_X6_one_137 V rec S M n z y0 y1 y2 y3 y4 = some (r, S', M', n', z') → W p l e (Rm_X6_one frr lor (n' - nS) (z' - zS)) s m args below meth c H locs (n - nS) (z - zS) (mMX below D n0 (moR r) S' M' n' args s (n' - nS) (z' - zS)) (F0 m 137 ls [.ref y0, .int y1, .ref y2, .ref y3, .ref y4]) := by
  have hx := X.1.1
  have hb := X.1.2.1
  have hown := X.1.2.2.2.1
  have hts := X.1.2.2.2.2
  intro S M n z y0 y1 y2 y3 y4 H locs ls hn hz hp hl hF
  have hm0 := mn_X6_one_137 (rec := rec) @hmr hF
  unfold fb_X6_one_137 at hF
  obtain ⟨M39, e37, hF⟩ := ob_s hF
  refine m_callI (As := [.ref y2, .int y1, .ref y0]) (rest := [.ref y4]) X hp (w_X11_init e37) q852 q853 q158 q854 rfl 3 rfl ds_X11_init ⟨by show _ ≤ frr + 3; omega, by show _ ≤ lor + 64; omega⟩ hl.1 rfl (Nat.le_of_ble_eq_true rfl) dX6_one_137 ⟨by show _ + 0 ≤ n' - nS; omega, by show _ + 0 ≤ z' - zS; omega⟩ (fun H locs hp => ?_)
  cases hF
  exact xm_ret (m_aret X hp (Or.inl ⟨_, rfl⟩) dX6_one_140)
def fb_X6_one_130 (V : Nat → Nat) (rec : mSh → mMm → Nat → Nat → Nat → Option ((Nat ⊕ Nat) × mSh × mMm × Nat × Nat)) (S : mSh) (M : mMm) (n z : Nat) (x0 : Nat) (x1 : Nat) (x2 : Int32) (y0 : Nat) : Option ((Nat ⊕ Nat) × mSh × mMm × Nat × Nat) := gd ((S x0).1 = 7) (ob (f_X6_sum V S M n z x0) fun ⟨o34, S31, M30, n32, z33⟩ => xk o34 S31 M30 n32 z33 fun v29 => (fb_X6_one_137 V rec S31 M30 n32 z33  v29 x2 x1 y0 y0))
theorem mn_X6_one_130 {r : Nat ⊕ Nat} {rec : mSh → mMm → Nat → Nat → Nat → Option ((Nat ⊕ Nat) × mSh × mMm × Nat × Nat)} {S' : mSh} {M' : mMm} {n' z' : Nat} (hmr : ∀ {S : mSh} {M : mMm} {n z x0 : Nat} {r : Nat ⊕ Nat} {S' : mSh} {M' : mMm} {n' z' : Nat}, rec S M n z x0 = some (r, S', M', n', z') → n ≤ n' ∧ z ≤ z') : ∀ {S : mSh} {M : mMm} {n z : Nat} {x0 : Nat} {x1 : Nat} {x2 : Int32} {y0 : Nat}, fb_X6_one_130 V rec S M n z x0 x1 x2 y0 = some (r, S', M', n', z') → n ≤ n' ∧ z ≤ z' := by
  intro S M n z x0 x1 x2 y0 hF
  unfold fb_X6_one_130 at hF
  obtain ⟨g27, hF⟩ := gd_s hF
  obtain ⟨⟨o34, S31, M30, n32, z33⟩, e28, hF⟩ := ob_s hF
  have hc := mn_X6_sum e28
  rcases xk_s hF with ⟨v29, h35, hF⟩ | ⟨q36, h35, hF⟩
  · subst h35
    have h9 := (mn_X6_one_137 (V := V) (rec := rec) @hmr) hF
    exact ⟨by omega, by omega⟩
  · subst h35
    cases hF
    exact ⟨by omega, by omega⟩
theorem b_X6_one_130 {r : Nat ⊕ Nat} {S' : mSh} {M' : mMm} {n' z' : Nat} {frr lor : Nat} {rec : mSh → mMm → Nat → Nat → Nat → Option ((Nat ⊕ Nat) × mSh × mMm × Nat × Nat)} (hmr : ∀ {S : mSh} {M : mMm} {n z x0 : Nat} {r : Nat ⊕ Nat} {S' : mSh} {M' : mMm} {n' z' : Nat}, rec S M n z x0 = some (r, S', M', n', z') → n ≤ n' ∧ z ≤ z') (hrec : ∀ {S : mSh} {M : mMm} {n z x0 : Nat} {r : Nat ⊕ Nat} {S' : mSh} {M' : mMm} {n' z' : Nat}, rec S M n z x0 = some (r, S', M', n', z') → mXt l D n0 P yX6_one cX6_one 3 (some (.object "WindingSquare$Term")) frr lor (n' - n) (z' - z) [.ref x0] S M n (moR r) S' M' n') (hfl : 13 ≤ frr ∧ 332 ≤ lor) {nS zS : Nat} (hV : mV V n0 P) (hVs : mVs V n0 P) (hs : l.stackTraces = false) (hVx : mVx n0 P) (X : mCx D n0 P p m c cX6_one 3 s args yX6_one.cls meth (some (.object "WindingSquare$Term"))) (hX : ∀ x ∈ c.exceptionTable.toList, False) : ∀ (S : mSh) (M : mMm) (n z : Nat) (x0 : Nat) (x1 : Nat) (x2 : Int32) (y0 : Nat) (H : Heap) (locs : List Loc) (ls : Array Slot), nS ≤ n → zS ≤ z → mHp D n0 S M n s H locs → lv_has ls 3 [(0, .ref x0), (1, .ref x1), (2, .int x2)] → fb_X6_one_130 V rec S M n z x0 x1 x2 y0 = some (r, S', M', n', z') → W p l e (Rm_X6_one frr lor (n' - nS) (z' - zS)) s m args below meth c H locs (n - nS) (z - zS) (mMX below D n0 (moR r) S' M' n' args s (n' - nS) (z' - zS)) (F0 m 130 ls [.ref y0]) := by
  have hx := X.1.1
  have hb := X.1.2.1
  have hown := X.1.2.2.2.1
  have hts := X.1.2.2.2.2
  intro S M n z x0 x1 x2 y0 H locs ls hn hz hp hl hF
  have hm0 := mn_X6_one_130 (rec := rec) @hmr hF
  unfold fb_X6_one_130 at hF
  refine lv_dup hx hb dX6_one_130 rfl ?_
  refine lv_aload_n hx hb dX6_one_131 rfl (lv_at hl 1 rfl) ?_
  refine lv_iload_n hx hb dX6_one_132 rfl (lv_at hl 2 rfl) ?_
  refine lv_aload_n hx hb dX6_one_133 rfl (lv_at hl 0 rfl) ?_
  obtain ⟨g27, hF⟩ := gd_s hF
  obtain ⟨⟨o34, S31, M30, n32, z33⟩, e28, hF⟩ := ob_s hF
  have hc := mn_X6_sum e28
  rcases xk_s hF with ⟨v29, h35, hF⟩ | ⟨q36, h35, hF⟩
  · subst h35
    have hm := (mn_X6_one_137 (V := V) (rec := rec) @hmr) hF
    refine xm_callV (As := []) (rest := [.int x2, .ref x1, .ref y0, .ref y0]) X hp (w_X6_sum hV hVs hs hVx e28) q811 q813 qs17 q148 q814 0 rfl ds_X6_sum ⟨by show _ ≤ frr + 3; omega, by show _ ≤ lor + 64; omega⟩ 7 (T := TX6) (N := 10) rfl (by decide) g27 hl.1 rfl (Nat.le_of_ble_eq_true rfl) dX6_one_134 ⟨by show _ ≤ n' - nS; omega, by show _ ≤ z' - zS; omega⟩ (fun H locs hp => ?_)
    refine W.widen (k := n32 - nS) (n := z33 - zS) (by omega) (by omega) ?_
    exact b_X6_one_137 (rec := rec) @hmr @hrec hfl hV hVs hs hVx X hX _ _ _ _  _ _ _ _ _ _ _ _ (by omega) (by omega) hp (lv_sub hl [] rfl) hF
  · subst h35
    cases hF
    exact xm_callVT (As := []) (rest := [.int x2, .ref x1, .ref y0, .ref y0]) X hX hp (w_X6_sum hV hVs hs hVx e28) q811 q813 qs17 q148 q814 0 rfl ds_X6_sum ⟨by show _ ≤ frr + 3; omega, by show _ ≤ lor + 64; omega⟩ 7 (T := TX6) (N := 10) rfl (by decide) g27 hl.1 rfl (Nat.le_of_ble_eq_true rfl) dX6_one_134 ⟨by show _ ≤ n' - nS; omega, by show _ ≤ z' - zS; omega⟩ ⟨by omega, by omega⟩
def fb_X6_one_123 (V : Nat → Nat) (rec : mSh → mMm → Nat → Nat → Nat → Option ((Nat ⊕ Nat) × mSh × mMm × Nat × Nat)) (S : mSh) (M : mMm) (n z : Nat) (x0 : Nat) (x1 : Nat) (x2 : Int32) : Option ((Nat ⊕ Nat) × mSh × mMm × Nat × Nat) := gd ((S x0).1 = 7) (ob (f_X6_next V S M x0) fun M26 => (fb_X6_one_130 V rec (mS1 S n (11, 0)) (mM1 M26 n fun k => defaultValue (tyX11 k)) (n + 1) (z + 3) x0 x1 x2 n))
theorem mn_X6_one_123 {r : Nat ⊕ Nat} {rec : mSh → mMm → Nat → Nat → Nat → Option ((Nat ⊕ Nat) × mSh × mMm × Nat × Nat)} {S' : mSh} {M' : mMm} {n' z' : Nat} (hmr : ∀ {S : mSh} {M : mMm} {n z x0 : Nat} {r : Nat ⊕ Nat} {S' : mSh} {M' : mMm} {n' z' : Nat}, rec S M n z x0 = some (r, S', M', n', z') → n ≤ n' ∧ z ≤ z') : ∀ {S : mSh} {M : mMm} {n z : Nat} {x0 : Nat} {x1 : Nat} {x2 : Int32}, fb_X6_one_123 V rec S M n z x0 x1 x2 = some (r, S', M', n', z') → n ≤ n' ∧ z ≤ z' := by
  intro S M n z x0 x1 x2 hF
  unfold fb_X6_one_123 at hF
  obtain ⟨g23, hF⟩ := gd_s hF
  obtain ⟨M26, e24, hF⟩ := ob_s hF
  have h9 := (mn_X6_one_130 (V := V) (rec := rec) @hmr) hF
  exact ⟨by omega, by omega⟩
theorem b_X6_one_123 {r : Nat ⊕ Nat} {S' : mSh} {M' : mMm} {n' z' : Nat} {frr lor : Nat} {rec : mSh → mMm → Nat → Nat → Nat → Option ((Nat ⊕ Nat) × mSh × mMm × Nat × Nat)} (hmr : ∀ {S : mSh} {M : mMm} {n z x0 : Nat} {r : Nat ⊕ Nat} {S' : mSh} {M' : mMm} {n' z' : Nat}, rec S M n z x0 = some (r, S', M', n', z') → n ≤ n' ∧ z ≤ z') (hrec : ∀ {S : mSh} {M : mMm} {n z x0 : Nat} {r : Nat ⊕ Nat} {S' : mSh} {M' : mMm} {n' z' : Nat}, rec S M n z x0 = some (r, S', M', n', z') → mXt l D n0 P yX6_one cX6_one 3 (some (.object "WindingSquare$Term")) frr lor (n' - n) (z' - z) [.ref x0] S M n (moR r) S' M' n') (hfl : 13 ≤ frr ∧ 332 ≤ lor) {nS zS : Nat} (hV : mV V n0 P) (hVs : mVs V n0 P) (hs : l.stackTraces = false) (hVx : mVx n0 P) (X : mCx D n0 P p m c cX6_one 3 s args yX6_one.cls meth (some (.object "WindingSquare$Term"))) (hX : ∀ x ∈ c.exceptionTable.toList, False) : ∀ (S : mSh) (M : mMm) (n z : Nat) (x0 : Nat) (x1 : Nat) (x2 : Int32) (H : Heap) (locs : List Loc) (ls : Array Slot), nS ≤ n → zS ≤ z → mHp D n0 S M n s H locs → lv_has ls 3 [(0, .ref x0), (1, .ref x1), (2, .int x2)] → fb_X6_one_123 V rec S M n z x0 x1 x2 = some (r, S', M', n', z') → W p l e (Rm_X6_one frr lor (n' - nS) (z' - zS)) s m args below meth c H locs (n - nS) (z - zS) (mMX below D n0 (moR r) S' M' n' args s (n' - nS) (z' - zS)) (F0 m 123 ls []) := by
  have hx := X.1.1
  have hb := X.1.2.1
  have hown := X.1.2.2.2.1
  have hts := X.1.2.2.2.2
  intro S M n z x0 x1 x2 H locs ls hn hz hp hl hF
  have hm0 := mn_X6_one_123 (rec := rec) @hmr hF
  unfold fb_X6_one_123 at hF
  refine lv_aload_n hx hb dX6_one_123 rfl (lv_at hl 0 rfl) ?_
  obtain ⟨g23, hF⟩ := gd_s hF
  obtain ⟨M26, e24, hF⟩ := ob_s hF
  refine m_callV (As := []) (rest := []) X hp (w_X6_next hVs e24) q621 q623 qs5 q148 q624 0 rfl ds_X6_next ⟨by show _ ≤ frr + 3; omega, by show _ ≤ lor + 64; omega⟩ 7 (T := TX6) (N := 10) rfl (by decide) g23 hl.1 rfl (Nat.le_of_ble_eq_true rfl) dX6_one_124 ⟨by show _ + 0 ≤ n' - nS; omega, by show _ + 0 ≤ z' - zS; omega⟩ (fun H locs hp => ?_)
  have hm := (mn_X6_one_130 (V := V) (rec := rec) @hmr) hF
  refine m_new X hp kX11 q850 q851 q158 (by show _ ≤ n' - nS; omega) (by show _ ≤ z' - zS; omega) dX6_one_127 (fun H hp => ?_)
  refine W.widen (k := n + 1 - nS) (n := z + 3 - zS) (by omega) (by omega) ?_
  exact b_X6_one_130 (rec := rec) @hmr @hrec hfl hV hVs hs hVx X hX _ _ _ _ _ _ _ _ _ _ _ (by omega) (by omega) hp (lv_sub hl [0, 1, 2] rfl) hF
def fb_X6_one_86 (V : Nat → Nat) (rec : mSh → mMm → Nat → Nat → Nat → Option ((Nat ⊕ Nat) × mSh × mMm × Nat × Nat)) (S : mSh) (M : mMm) (n z : Nat) (x0 : Nat) (y0 : Nat) : Option ((Nat ⊕ Nat) × mSh × mMm × Nat × Nat) := ob (rI S M x0 7 5) fun v16 => (if v16 = (60 : Int32) then (fb_X6_one_123 V rec S M n z x0 y0 v16) else (if v16 = (61 : Int32) then (fb_X6_one_123 V rec S M n z x0 y0 v16) else (if v16 = (62 : Int32) then (fb_X6_one_123 V rec S M n z x0 y0 v16) else ob (rI S M x0 7 4) fun v21 => some (.inr n, mSF S n, mMF M n (1 : Int32) v21, n + 1, z + 8))))
theorem mn_X6_one_86 {r : Nat ⊕ Nat} {rec : mSh → mMm → Nat → Nat → Nat → Option ((Nat ⊕ Nat) × mSh × mMm × Nat × Nat)} {S' : mSh} {M' : mMm} {n' z' : Nat} (hmr : ∀ {S : mSh} {M : mMm} {n z x0 : Nat} {r : Nat ⊕ Nat} {S' : mSh} {M' : mMm} {n' z' : Nat}, rec S M n z x0 = some (r, S', M', n', z') → n ≤ n' ∧ z ≤ z') : ∀ {S : mSh} {M : mMm} {n z : Nat} {x0 : Nat} {y0 : Nat}, fb_X6_one_86 V rec S M n z x0 y0 = some (r, S', M', n', z') → n ≤ n' ∧ z ≤ z' := by
  intro S M n z x0 y0 hF
  unfold fb_X6_one_86 at hF
  obtain ⟨v16, e17, hF⟩ := ob_s hF
  rcases Decidable.em (v16 = (60 : Int32)) with c18 | c18
  · have hF := if_p c18 hF
    have h9 := (mn_X6_one_123 (V := V) (rec := rec) @hmr) hF
    exact ⟨by omega, by omega⟩
  · have hF := if_n c18 hF
    rcases Decidable.em (v16 = (61 : Int32)) with c19 | c19
    · have hF := if_p c19 hF
      have h9 := (mn_X6_one_123 (V := V) (rec := rec) @hmr) hF
      exact ⟨by omega, by omega⟩
    · have hF := if_n c19 hF
      rcases Decidable.em (v16 = (62 : Int32)) with c20 | c20
      · have hF := if_p c20 hF
        have h9 := (mn_X6_one_123 (V := V) (rec := rec) @hmr) hF
        exact ⟨by omega, by omega⟩
      · have hF := if_n c20 hF
        obtain ⟨v21, e22, hF⟩ := ob_s hF
        cases hF
        exact ⟨by omega, by omega⟩
theorem b_X6_one_86 {r : Nat ⊕ Nat} {S' : mSh} {M' : mMm} {n' z' : Nat} {frr lor : Nat} {rec : mSh → mMm → Nat → Nat → Nat → Option ((Nat ⊕ Nat) × mSh × mMm × Nat × Nat)} (hmr : ∀ {S : mSh} {M : mMm} {n z x0 : Nat} {r : Nat ⊕ Nat} {S' : mSh} {M' : mMm} {n' z' : Nat}, rec S M n z x0 = some (r, S', M', n', z') → n ≤ n' ∧ z ≤ z') (hrec : ∀ {S : mSh} {M : mMm} {n z x0 : Nat} {r : Nat ⊕ Nat} {S' : mSh} {M' : mMm} {n' z' : Nat}, rec S M n z x0 = some (r, S', M', n', z') → mXt l D n0 P yX6_one cX6_one 3 (some (.object "WindingSquare$Term")) frr lor (n' - n) (z' - z) [.ref x0] S M n (moR r) S' M' n') (hfl : 13 ≤ frr ∧ 332 ≤ lor) {nS zS : Nat} (hV : mV V n0 P) (hVs : mVs V n0 P) (hs : l.stackTraces = false) (hVx : mVx n0 P) (X : mCx D n0 P p m c cX6_one 3 s args yX6_one.cls meth (some (.object "WindingSquare$Term"))) (hX : ∀ x ∈ c.exceptionTable.toList, False) : ∀ (S : mSh) (M : mMm) (n z : Nat) (x0 : Nat) (y0 : Nat) (H : Heap) (locs : List Loc) (ls : Array Slot), nS ≤ n → zS ≤ z → mHp D n0 S M n s H locs → lv_has ls 3 [(0, .ref x0)] → fb_X6_one_86 V rec S M n z x0 y0 = some (r, S', M', n', z') → W p l e (Rm_X6_one frr lor (n' - nS) (z' - zS)) s m args below meth c H locs (n - nS) (z - zS) (mMX below D n0 (moR r) S' M' n' args s (n' - nS) (z' - zS)) (F0 m 86 ls [.ref y0]) := by
  have hx := X.1.1
  have hb := X.1.2.1
  have hown := X.1.2.2.2.1
  have hts := X.1.2.2.2.2
  intro S M n z x0 y0 H locs ls hn hz hp hl hF
  have hm0 := mn_X6_one_86 (rec := rec) @hmr hF
  unfold fb_X6_one_86 at hF
  refine lv_astore_n (lv' := [(1, .ref y0), (0, .ref x0)]) hx hb dX6_one_86 rfl hl (by decide) rfl (fun ls hl => ?_)
  refine lv_aload_n hx hb dX6_one_87 rfl (lv_at hl 1 rfl) ?_
  obtain ⟨v16, e17, hF⟩ := ob_s hF
  refine m_getI X hp e17 kX6 (Nat.le_of_ble_eq_true rfl) q590 dX6_one_88 ?_
  refine lv_istore_n (lv' := [(2, .int v16), (1, .ref y0), (0, .ref x0)]) hx hb dX6_one_91 rfl hl (by decide) rfl (fun ls hl => ?_)
  refine lv_iload_n hx hb dX6_one_92 rfl (lv_at hl 0 rfl) ?_
  refine lv_bipush (v := 60) hx hb dX6_one_93 (by decide) ?_
  refine lv_icmp_eq (tgt := 123) hx hb dX6_one_95 (by decide) (fun c18 => ?_) (fun c18 => ?_)
  · have hF := if_p c18 hF
    exact b_X6_one_123 (rec := rec) @hmr @hrec hfl hV hVs hs hVx X hX _ _ _ _ _ _ _ _ _ _ (by omega) (by omega) hp (lv_sub hl [2, 1, 0] rfl) hF
  · have hF := if_n c18 hF
    refine lv_iload_n hx hb dX6_one_98 rfl (lv_at hl 0 rfl) ?_
    refine lv_bipush (v := 61) hx hb dX6_one_99 (by decide) ?_
    refine lv_icmp_eq (tgt := 123) hx hb dX6_one_101 (by decide) (fun c19 => ?_) (fun c19 => ?_)
    · have hF := if_p c19 hF
      exact b_X6_one_123 (rec := rec) @hmr @hrec hfl hV hVs hs hVx X hX _ _ _ _ _ _ _ _ _ _ (by omega) (by omega) hp (lv_sub hl [2, 1, 0] rfl) hF
    · have hF := if_n c19 hF
      refine lv_iload_n hx hb dX6_one_104 rfl (lv_at hl 0 rfl) ?_
      refine lv_bipush (v := 62) hx hb dX6_one_105 (by decide) ?_
      refine lv_icmp_eq (tgt := 123) hx hb dX6_one_107 (by decide) (fun c20 => ?_) (fun c20 => ?_)
      · have hF := if_p c20 hF
        exact b_X6_one_123 (rec := rec) @hmr @hrec hfl hV hVs hs hVx X hX _ _ _ _ _ _ _ _ _ _ (by omega) (by omega) hp (lv_sub hl [2, 1, 0] rfl) hF
      · have hF := if_n c20 hF
        obtain ⟨v21, e22, hF⟩ := ob_s hF
        cases hF
        exact xm_throw (rest := []) (kd := 1) X hX hs hVx hp (lv_at hl 2 rfl) hl.1 (by decide) e22 dX6_one_110 dX6_one_113 dX6_one_114 dX6_one_115 dX6_one_116 dX6_one_119 dX6_one_122 (Nat.le_of_ble_eq_true rfl) ⟨by show _ ≤ frr + 3; omega, by show _ ≤ lor + 64; omega⟩ ⟨by show _ ≤ n + 1 - nS; omega, by show _ ≤ z + 8 - zS; omega⟩ ⟨by omega, by omega⟩
def fb_X6_one_0 (V : Nat → Nat) (rec : mSh → mMm → Nat → Nat → Nat → Option ((Nat ⊕ Nat) × mSh × mMm × Nat × Nat)) (S : mSh) (M : mMm) (n z : Nat) (x0 : Nat) : Option ((Nat ⊕ Nat) × mSh × mMm × Nat × Nat) := ob (rI S M x0 7 5) fun v1 => (if v1 = (6 : Int32) then (fb_X6_one_18 V rec S M n z x0) else ob (rI S M x0 7 5) fun v4 => (if v4 = (40 : Int32) then (fb_X6_one_18 V rec S M n z x0) else ob (f_X6_sum V S M n z x0) fun ⟨o13, S10, M9, n11, z12⟩ => xk o13 S10 M9 n11 z12 fun v8 => (fb_X6_one_86 V rec S10 M9 n11 z12 x0 v8)))
theorem mn_X6_one_0 {r : Nat ⊕ Nat} {rec : mSh → mMm → Nat → Nat → Nat → Option ((Nat ⊕ Nat) × mSh × mMm × Nat × Nat)} {S' : mSh} {M' : mMm} {n' z' : Nat} (hmr : ∀ {S : mSh} {M : mMm} {n z x0 : Nat} {r : Nat ⊕ Nat} {S' : mSh} {M' : mMm} {n' z' : Nat}, rec S M n z x0 = some (r, S', M', n', z') → n ≤ n' ∧ z ≤ z') : ∀ {S : mSh} {M : mMm} {n z : Nat} {x0 : Nat}, fb_X6_one_0 V rec S M n z x0 = some (r, S', M', n', z') → n ≤ n' ∧ z ≤ z' := by
  intro S M n z x0 hF
  unfold fb_X6_one_0 at hF
  obtain ⟨v1, e2, hF⟩ := ob_s hF
  rcases Decidable.em (v1 = (6 : Int32)) with c3 | c3
  · have hF := if_p c3 hF
    have h9 := (mn_X6_one_18 (V := V) (rec := rec) @hmr) hF
    exact ⟨by omega, by omega⟩
  · have hF := if_n c3 hF
    obtain ⟨v4, e5, hF⟩ := ob_s hF
    rcases (Decidable.em (v4 = (40 : Int32))).symm with c6 | c6
    · have hF := if_n c6 hF
      obtain ⟨⟨o13, S10, M9, n11, z12⟩, e7, hF⟩ := ob_s hF
      have hc := mn_X6_sum e7
      rcases xk_s hF with ⟨v8, h14, hF⟩ | ⟨q15, h14, hF⟩
      · subst h14
        have h9 := (mn_X6_one_86 (V := V) (rec := rec) @hmr) hF
        exact ⟨by omega, by omega⟩
      · subst h14
        cases hF
        exact ⟨by omega, by omega⟩
    · have hF := if_p c6 hF
      have h9 := (mn_X6_one_18 (V := V) (rec := rec) @hmr) hF
      exact ⟨by omega, by omega⟩
theorem b_X6_one_0 {r : Nat ⊕ Nat} {S' : mSh} {M' : mMm} {n' z' : Nat} {frr lor : Nat} {rec : mSh → mMm → Nat → Nat → Nat → Option ((Nat ⊕ Nat) × mSh × mMm × Nat × Nat)} (hmr : ∀ {S : mSh} {M : mMm} {n z x0 : Nat} {r : Nat ⊕ Nat} {S' : mSh} {M' : mMm} {n' z' : Nat}, rec S M n z x0 = some (r, S', M', n', z') → n ≤ n' ∧ z ≤ z') (hrec : ∀ {S : mSh} {M : mMm} {n z x0 : Nat} {r : Nat ⊕ Nat} {S' : mSh} {M' : mMm} {n' z' : Nat}, rec S M n z x0 = some (r, S', M', n', z') → mXt l D n0 P yX6_one cX6_one 3 (some (.object "WindingSquare$Term")) frr lor (n' - n) (z' - z) [.ref x0] S M n (moR r) S' M' n') (hfl : 13 ≤ frr ∧ 332 ≤ lor) {nS zS : Nat} (hV : mV V n0 P) (hVs : mVs V n0 P) (hs : l.stackTraces = false) (hVx : mVx n0 P) (X : mCx D n0 P p m c cX6_one 3 s args yX6_one.cls meth (some (.object "WindingSquare$Term"))) (hX : ∀ x ∈ c.exceptionTable.toList, False) : ∀ (S : mSh) (M : mMm) (n z : Nat) (x0 : Nat) (H : Heap) (locs : List Loc) (ls : Array Slot), nS ≤ n → zS ≤ z → mHp D n0 S M n s H locs → lv_has ls 3 [(0, .ref x0)] → fb_X6_one_0 V rec S M n z x0 = some (r, S', M', n', z') → W p l e (Rm_X6_one frr lor (n' - nS) (z' - zS)) s m args below meth c H locs (n - nS) (z - zS) (mMX below D n0 (moR r) S' M' n' args s (n' - nS) (z' - zS)) (F0 m 0 ls []) := by
  have hx := X.1.1
  have hb := X.1.2.1
  have hown := X.1.2.2.2.1
  have hts := X.1.2.2.2.2
  intro S M n z x0 H locs ls hn hz hp hl hF
  have hm0 := mn_X6_one_0 (rec := rec) @hmr hF
  unfold fb_X6_one_0 at hF
  refine lv_aload_n hx hb dX6_one_0 rfl (lv_at hl 0 rfl) ?_
  obtain ⟨v1, e2, hF⟩ := ob_s hF
  refine m_getI X hp e2 kX6 (Nat.le_of_ble_eq_true rfl) q590 dX6_one_1 ?_
  refine lv_bipush (v := 6) hx hb dX6_one_4 (by decide) ?_
  refine lv_icmp_eq (tgt := 18) hx hb dX6_one_6 (by decide) (fun c3 => ?_) (fun c3 => ?_)
  · have hF := if_p c3 hF
    exact b_X6_one_18 (rec := rec) @hmr @hrec hfl hV hVs hs hVx X hX _ _ _ _ _ _ _ _ (by omega) (by omega) hp (lv_sub hl [0] rfl) hF
  · have hF := if_n c3 hF
    refine lv_aload_n hx hb dX6_one_9 rfl (lv_at hl 0 rfl) ?_
    obtain ⟨v4, e5, hF⟩ := ob_s hF
    refine m_getI X hp e5 kX6 (Nat.le_of_ble_eq_true rfl) q590 dX6_one_10 ?_
    refine lv_bipush (v := 40) hx hb dX6_one_13 (by decide) ?_
    refine lv_icmp_ne (tgt := 82) hx hb dX6_one_15 (by decide) (fun c6 => ?_) (fun c6 => ?_)
    · have hF := if_n c6 hF
      refine lv_aload_n hx hb dX6_one_82 rfl (lv_at hl 0 rfl) ?_
      obtain ⟨⟨o13, S10, M9, n11, z12⟩, e7, hF⟩ := ob_s hF
      have hc := mn_X6_sum e7
      rcases xk_s hF with ⟨v8, h14, hF⟩ | ⟨q15, h14, hF⟩
      · subst h14
        have hm := (mn_X6_one_86 (V := V) (rec := rec) @hmr) hF
        refine xm_callV (As := []) (rest := []) X hp (w_X6_sum hV hVs hs hVx e7) q811 q813 qs17 q148 q814 0 rfl ds_X6_sum ⟨by show _ ≤ frr + 3; omega, by show _ ≤ lor + 64; omega⟩ 7 (T := TX6) (N := 10) rfl (by decide) (rI_s e5).1 hl.1 rfl (Nat.le_of_ble_eq_true rfl) dX6_one_83 ⟨by show _ ≤ n' - nS; omega, by show _ ≤ z' - zS; omega⟩ (fun H locs hp => ?_)
        refine W.widen (k := n11 - nS) (n := z12 - zS) (by omega) (by omega) ?_
        exact b_X6_one_86 (rec := rec) @hmr @hrec hfl hV hVs hs hVx X hX _ _ _ _ _ _ _ _ _ (by omega) (by omega) hp (lv_sub hl [0] rfl) hF
      · subst h14
        cases hF
        exact xm_callVT (As := []) (rest := []) X hX hp (w_X6_sum hV hVs hs hVx e7) q811 q813 qs17 q148 q814 0 rfl ds_X6_sum ⟨by show _ ≤ frr + 3; omega, by show _ ≤ lor + 64; omega⟩ 7 (T := TX6) (N := 10) rfl (by decide) (rI_s e5).1 hl.1 rfl (Nat.le_of_ble_eq_true rfl) dX6_one_83 ⟨by show _ ≤ n' - nS; omega, by show _ ≤ z' - zS; omega⟩ ⟨by omega, by omega⟩
    · have hF := if_p c6 hF
      exact b_X6_one_18 (rec := rec) @hmr @hrec hfl hV hVs hs hVx X hX _ _ _ _ _ _ _ _ (by omega) (by omega) hp (lv_sub hl [0] rfl) hF
def fo_X6_one (V : Nat → Nat) (rec : mSh → mMm → Nat → Nat → Nat → Option ((Nat ⊕ Nat) × mSh × mMm × Nat × Nat)) (S : mSh) (M : mMm) (n z : Nat) (x0 : Nat) : Option ((Nat ⊕ Nat) × mSh × mMm × Nat × Nat) := (fb_X6_one_0 V rec S M n z x0)
theorem mno_X6_one {x0 : Nat} {r : Nat ⊕ Nat} {rec : mSh → mMm → Nat → Nat → Nat → Option ((Nat ⊕ Nat) × mSh × mMm × Nat × Nat)} {S' : mSh} {M' : mMm} {n' z' : Nat} (hmr : ∀ {S : mSh} {M : mMm} {n z x0 : Nat} {r : Nat ⊕ Nat} {S' : mSh} {M' : mMm} {n' z' : Nat}, rec S M n z x0 = some (r, S', M', n', z') → n ≤ n' ∧ z ≤ z') {S : mSh} {M : mMm} {n z : Nat} (hF : fo_X6_one V rec S M n z x0 = some (r, S', M', n', z')) : n ≤ n' ∧ z ≤ z' := by
  unfold fo_X6_one at hF
  exact mn_X6_one_0 (rec := rec) @hmr hF
theorem wo_X6_one {x0 : Nat} {r : Nat ⊕ Nat} {S' : mSh} {M' : mMm} {n' z' : Nat} {S : mSh} {M : mMm} {n z : Nat} {frr lor : Nat} {rec : mSh → mMm → Nat → Nat → Nat → Option ((Nat ⊕ Nat) × mSh × mMm × Nat × Nat)} (hmr : ∀ {S : mSh} {M : mMm} {n z x0 : Nat} {r : Nat ⊕ Nat} {S' : mSh} {M' : mMm} {n' z' : Nat}, rec S M n z x0 = some (r, S', M', n', z') → n ≤ n' ∧ z ≤ z') (hrec : ∀ {S : mSh} {M : mMm} {n z x0 : Nat} {r : Nat ⊕ Nat} {S' : mSh} {M' : mMm} {n' z' : Nat}, rec S M n z x0 = some (r, S', M', n', z') → mXt l D n0 P yX6_one cX6_one 3 (some (.object "WindingSquare$Term")) frr lor (n' - n) (z' - z) [.ref x0] S M n (moR r) S' M' n') (hfl : 13 ≤ frr ∧ 332 ≤ lor) (hV : mV V n0 P) (hVs : mVs V n0 P) (hs : l.stackTraces = false) (hVx : mVx n0 P) (hF : fo_X6_one V rec S M n z x0 = some (r, S', M', n', z')) : mXt l D n0 P yX6_one cX6_one 3 (some (.object "WindingSquare$Term")) (frr + 3) (lor + 64) (n' - n) (z' - z) [.ref x0] S M n (moR r) S' M' n' := by
  refine m_ofX (by decide) (Nat.le_of_ble_eq_true rfl) (fun p e s m below meth c X hX hp ls hl => ?_)
  unfold fo_X6_one at hF
  refine W.widen (k := n - n) (n := z - z) (by omega) (by omega) ?_
  exact b_X6_one_0 (rec := rec) @hmr @hrec hfl hV hVs hs hVx X hX _ _ _ _ _ _ _ _ (Nat.le_refl _) (Nat.le_refl _) hp hl hF
end
def fd_X6_one (V : Nat → Nat) : Nat → mSh → mMm → Nat → Nat → Nat → Option ((Nat ⊕ Nat) × mSh × mMm × Nat × Nat)
  | 0, _, _, _, _, _ => none
  | d + 1, S, M, n, z, x0 => fo_X6_one V (fd_X6_one V d) S M n z x0
theorem mnd_X6_one {V : Nat → Nat} : ∀ (d : Nat) {S : mSh} {M : mMm} {n z x0 : Nat} {r : Nat ⊕ Nat} {S' : mSh} {M' : mMm} {n' z' : Nat}, fd_X6_one V d S M n z x0 = some (r, S', M', n', z') → n ≤ n' ∧ z ≤ z'
  | 0, _, _, _, _, _, _, _, _, _, _, h => by
    have h : none = some _ := h
    cases h
  | d + 1, _, _, _, _, _, _, _, _, _, _, h => by
    rw [fd_X6_one] at h
    exact mno_X6_one (rec := fd_X6_one V d) (fun h => mnd_X6_one d h) h
theorem wd_X6_one {l : Launch} {D : va_G} {n0 : Nat} {P : mP} {V : Nat → Nat} (hV : mV V n0 P) (hVs : mVs V n0 P) (hs : l.stackTraces = false) (hVx : mVx n0 P) : ∀ (d : Nat) {S : mSh} {M : mMm} {n z x0 : Nat} {r : Nat ⊕ Nat} {S' : mSh} {M' : mMm} {n' z' : Nat}, fd_X6_one V d S M n z x0 = some (r, S', M', n', z') → mXt l D n0 P yX6_one cX6_one 3 (some (.object "WindingSquare$Term")) (3 * d + 13) (64 * d + 332) (n' - n) (z' - z) [.ref x0] S M n (moR r) S' M' n'
  | 0, _, _, _, _, _, _, _, _, _, _, h => by
    have h : none = some _ := h
    cases h
  | d + 1, _, _, _, _, _, _, _, _, _, _, h => by
    rw [fd_X6_one] at h
    rw [show 3 * (d + 1) + 13 = 3 * d + 13 + 3 by omega, show 64 * (d + 1) + 332 = 64 * d + 332 + 64 by omega]
    exact wo_X6_one (rec := fd_X6_one V d) (fun h => mnd_X6_one d h) (fun h => wd_X6_one hV hVs hs hVx d h) ⟨Nat.le_add_left _ _, Nat.le_add_left _ _⟩ hV hVs hs hVx h
def f_X6_one (V : Nat → Nat) (S : mSh) (M : mMm) (n z x0 : Nat) : Option ((Nat ⊕ Nat) × mSh × mMm × Nat × Nat) := fd_X6_one V 10 S M n z x0
theorem mn_X6_one {V : Nat → Nat} {S : mSh} {M : mMm} {n z x0 : Nat} {r : Nat ⊕ Nat} {S' : mSh} {M' : mMm} {n' z' : Nat} (h : f_X6_one V S M n z x0 = some (r, S', M', n', z')) : n ≤ n' ∧ z ≤ z' := mnd_X6_one 10 h
theorem w_X6_one {l : Launch} {D : va_G} {n0 : Nat} {P : mP} {V : Nat → Nat} {S : mSh} {M : mMm} {n z x0 : Nat} {r : Nat ⊕ Nat} {S' : mSh} {M' : mMm} {n' z' : Nat} (hV : mV V n0 P) (hVs : mVs V n0 P) (hs : l.stackTraces = false) (hVx : mVx n0 P) (h : f_X6_one V S M n z x0 = some (r, S', M', n', z')) : mXt l D n0 P yX6_one cX6_one 3 (some (.object "WindingSquare$Term")) 43 972 (n' - n) (z' - z) [.ref x0] S M n (moR r) S' M' n' := wd_X6_one hV hVs hs hVx 10 h
def f_X6_all (V : Nat → Nat) (S : mSh) (M : mMm) (n z x0 : Nat) : Option ((Nat ⊕ Nat) × mSh × mMm × Nat × Nat) := fo_X6_all V (fd_X6_one V 10) S M n z x0
theorem mn_X6_all {V : Nat → Nat} {S : mSh} {M : mMm} {n z x0 : Nat} {r : Nat ⊕ Nat} {S' : mSh} {M' : mMm} {n' z' : Nat} (h : f_X6_all V S M n z x0 = some (r, S', M', n', z')) : n ≤ n' ∧ z ≤ z' := mno_X6_all (rec := fd_X6_one V 10) (fun h => mnd_X6_one 10 h) h
theorem w_X6_all {l : Launch} {D : va_G} {n0 : Nat} {P : mP} {V : Nat → Nat} {S : mSh} {M : mMm} {n z x0 : Nat} {r : Nat ⊕ Nat} {S' : mSh} {M' : mMm} {n' z' : Nat} (hV : mV V n0 P) (hVs : mVs V n0 P) (hs : l.stackTraces = false) (hVx : mVx n0 P) (h : f_X6_all V S M n z x0 = some (r, S', M', n', z')) : mXt l D n0 P yX6_all cX6_all 2 (some (.object "WindingSquare$Term")) 44 994 (n' - n) (z' - z) [.ref x0] S M n (moR r) S' M' n' := wo_X6_all (rec := fd_X6_one V 10) (fun h => mnd_X6_one 10 h) (fun h => wd_X6_one hV hVs hs hVx 10 h) ⟨by decide, by decide⟩ hV hVs hs hVx h
def f_X6_any (V : Nat → Nat) (S : mSh) (M : mMm) (n z x0 : Nat) : Option ((Nat ⊕ Nat) × mSh × mMm × Nat × Nat) := fo_X6_any V (fd_X6_one V 10) S M n z x0
theorem mn_X6_any {V : Nat → Nat} {S : mSh} {M : mMm} {n z x0 : Nat} {r : Nat ⊕ Nat} {S' : mSh} {M' : mMm} {n' z' : Nat} (h : f_X6_any V S M n z x0 = some (r, S', M', n', z')) : n ≤ n' ∧ z ≤ z' := mno_X6_any (rec := fd_X6_one V 10) (fun h => mnd_X6_one 10 h) h
theorem w_X6_any {l : Launch} {D : va_G} {n0 : Nat} {P : mP} {V : Nat → Nat} {S : mSh} {M : mMm} {n z x0 : Nat} {r : Nat ⊕ Nat} {S' : mSh} {M' : mMm} {n' z' : Nat} (hV : mV V n0 P) (hVs : mVs V n0 P) (hs : l.stackTraces = false) (hVx : mVx n0 P) (h : f_X6_any V S M n z x0 = some (r, S', M', n', z')) : mXt l D n0 P yX6_any cX6_any 2 (some (.object "WindingSquare$Term")) 45 1015 (n' - n) (z' - z) [.ref x0] S M n (moR r) S' M' n' := wo_X6_any (rec := fd_X6_one V 10) (fun h => mnd_X6_one 10 h) (fun h => wd_X6_one hV hVs hs hVx 10 h) ⟨by decide, by decide⟩ hV hVs hs hVx h
section
variable {l : Launch} {D : va_G} {n0 : Nat} {P : mP} {V : Nat → Nat} {p : Program} {e : Env} {s : State} {m : MethodId} {args : Array Value} {below : List Frame} {meth : Method} {c : Code}
abbrev Rm_X6_law (mc ms : Nat) : Room := { frames := 46, cells := mc, slots := ms, locals := 1036 }
def fb_X6_law_129 (V : Nat → Nat) (k12 : mSh → mMm → Nat → Nat → Nat → Nat → Option ((Nat ⊕ Nat) × mSh × mMm × Nat × Nat)) (S : mSh) (M : mMm) (n z : Nat) (x0 : Nat) (x1 : Nat) (y0 : Int32) : Option ((Nat ⊕ Nat) × mSh × mMm × Nat × Nat) := (k12 S M n z x0 x1)
theorem mn_X6_law_129 {r : Nat ⊕ Nat} {S' : mSh} {M' : mMm} {n' z' : Nat} (k12 : mSh → mMm → Nat → Nat → Nat → Nat → Option ((Nat ⊕ Nat) × mSh × mMm × Nat × Nat)) (hmk12 : ∀ {S : mSh} {M : mMm} {n z : Nat} {x0 : Nat} {x1 : Nat}, k12 S M n z x0 x1 = some (r, S', M', n', z') → n ≤ n' ∧ z ≤ z') : ∀ {S : mSh} {M : mMm} {n z : Nat} {x0 : Nat} {x1 : Nat} {y0 : Int32}, fb_X6_law_129 V k12 S M n z x0 x1 y0 = some (r, S', M', n', z') → n ≤ n' ∧ z ≤ z' := by
  intro S M n z x0 x1 y0 hF
  unfold fb_X6_law_129 at hF
  have h9 := hmk12 hF
  exact ⟨by omega, by omega⟩
theorem b_X6_law_129 {r : Nat ⊕ Nat} {S' : mSh} {M' : mMm} {n' z' : Nat} {nS zS : Nat} (hV : mV V n0 P) (hVs : mVs V n0 P) (hs : l.stackTraces = false) (hVx : mVx n0 P) (X : mCx D n0 P p m c cX6_law 5 s args yX6_law.cls meth (some (.object "java/util/ArrayList"))) (hX : ∀ x ∈ c.exceptionTable.toList, False) (k12 : mSh → mMm → Nat → Nat → Nat → Nat → Option ((Nat ⊕ Nat) × mSh × mMm × Nat × Nat)) (hmk12 : ∀ {S : mSh} {M : mMm} {n z : Nat} {x0 : Nat} {x1 : Nat}, k12 S M n z x0 x1 = some (r, S', M', n', z') → n ≤ n' ∧ z ≤ z') (hk12 : ∀ (S : mSh) (M : mMm) (n z : Nat) (x0 : Nat) (x1 : Nat) (H : Heap) (locs : List Loc) (ls : Array Slot), nS ≤ n → zS ≤ z → mHp D n0 S M n s H locs → lv_has ls 5 [(0, .ref x0), (1, .ref x1)] → k12 S M n z x0 x1 = some (r, S', M', n', z') → W p l e (Rm_X6_law (n' - nS) (z' - zS)) s m args below meth c H locs (n - nS) (z - zS) (mMX below D n0 (moR r) S' M' n' args s (n' - nS) (z' - zS)) (F0 m 12 ls [])) : ∀ (S : mSh) (M : mMm) (n z : Nat) (x0 : Nat) (x1 : Nat) (y0 : Int32) (H : Heap) (locs : List Loc) (ls : Array Slot), nS ≤ n → zS ≤ z → mHp D n0 S M n s H locs → lv_has ls 5 [(0, .ref x0), (1, .ref x1)] → fb_X6_law_129 V k12 S M n z x0 x1 y0 = some (r, S', M', n', z') → W p l e (Rm_X6_law (n' - nS) (z' - zS)) s m args below meth c H locs (n - nS) (z - zS) (mMX below D n0 (moR r) S' M' n' args s (n' - nS) (z' - zS)) (F0 m 129 ls [.int y0]) := by
  have hx := X.1.1
  have hb := X.1.2.1
  have hown := X.1.2.2.2.1
  have hts := X.1.2.2.2.2
  intro S M n z x0 x1 y0 H locs ls hn hz hp hl hF
  have hm0 := mn_X6_law_129 _ hmk12 hF
  unfold fb_X6_law_129 at hF
  refine lv_pop hx hb dX6_law_129 rfl ?_
  refine lv_goto (tgt := 12) hx hb dX6_law_130 (by decide) ?_
  exact hk12 _ _ _ _ _ _ _ _ _ (by omega) (by omega) hp (lv_sub hl [0, 1] rfl) hF
def fb_X6_law_118 (V : Nat → Nat) (k12 : mSh → mMm → Nat → Nat → Nat → Nat → Option ((Nat ⊕ Nat) × mSh × mMm × Nat × Nat)) (S : mSh) (M : mMm) (n z : Nat) (x0 : Nat) (x1 : Nat) (x2 : Int32) (x3 : Nat) (x4 : Option Nat) (y0 : Nat) (y1 : Nat) : Option ((Nat ⊕ Nat) × mSh × mMm × Nat × Nat) := ob (f_X13_init S M y0 x2 x3 x4) fun M70 => gd ((S y1).1 = 15) (ob (f_J2_add V S M70 n z y1 y0) fun ⟨v73, S75, M74, n76, z77⟩ => (fb_X6_law_129 V k12 S75 M74 n76 z77 x0 x1 v73))
theorem mn_X6_law_118 {r : Nat ⊕ Nat} {S' : mSh} {M' : mMm} {n' z' : Nat} (k12 : mSh → mMm → Nat → Nat → Nat → Nat → Option ((Nat ⊕ Nat) × mSh × mMm × Nat × Nat)) (hmk12 : ∀ {S : mSh} {M : mMm} {n z : Nat} {x0 : Nat} {x1 : Nat}, k12 S M n z x0 x1 = some (r, S', M', n', z') → n ≤ n' ∧ z ≤ z') : ∀ {S : mSh} {M : mMm} {n z : Nat} {x0 : Nat} {x1 : Nat} {x2 : Int32} {x3 : Nat} {x4 : Option Nat} {y0 : Nat} {y1 : Nat}, fb_X6_law_118 V k12 S M n z x0 x1 x2 x3 x4 y0 y1 = some (r, S', M', n', z') → n ≤ n' ∧ z ≤ z' := by
  intro S M n z x0 x1 x2 x3 x4 y0 y1 hF
  unfold fb_X6_law_118 at hF
  obtain ⟨M70, e68, hF⟩ := ob_s hF
  obtain ⟨g71, hF⟩ := gd_s hF
  obtain ⟨⟨v73, S75, M74, n76, z77⟩, e72, hF⟩ := ob_s hF
  have hc := mn_J2_add e72
  have h9 := (mn_X6_law_129 (V := V) k12 hmk12) hF
  exact ⟨by omega, by omega⟩
theorem b_X6_law_118 {r : Nat ⊕ Nat} {S' : mSh} {M' : mMm} {n' z' : Nat} {nS zS : Nat} (hV : mV V n0 P) (hVs : mVs V n0 P) (hs : l.stackTraces = false) (hVx : mVx n0 P) (X : mCx D n0 P p m c cX6_law 5 s args yX6_law.cls meth (some (.object "java/util/ArrayList"))) (hX : ∀ x ∈ c.exceptionTable.toList, False) (k12 : mSh → mMm → Nat → Nat → Nat → Nat → Option ((Nat ⊕ Nat) × mSh × mMm × Nat × Nat)) (hmk12 : ∀ {S : mSh} {M : mMm} {n z : Nat} {x0 : Nat} {x1 : Nat}, k12 S M n z x0 x1 = some (r, S', M', n', z') → n ≤ n' ∧ z ≤ z') (hk12 : ∀ (S : mSh) (M : mMm) (n z : Nat) (x0 : Nat) (x1 : Nat) (H : Heap) (locs : List Loc) (ls : Array Slot), nS ≤ n → zS ≤ z → mHp D n0 S M n s H locs → lv_has ls 5 [(0, .ref x0), (1, .ref x1)] → k12 S M n z x0 x1 = some (r, S', M', n', z') → W p l e (Rm_X6_law (n' - nS) (z' - zS)) s m args below meth c H locs (n - nS) (z - zS) (mMX below D n0 (moR r) S' M' n' args s (n' - nS) (z' - zS)) (F0 m 12 ls [])) : ∀ (S : mSh) (M : mMm) (n z : Nat) (x0 : Nat) (x1 : Nat) (x2 : Int32) (x3 : Nat) (x4 : Option Nat) (y0 : Nat) (y1 : Nat) (H : Heap) (locs : List Loc) (ls : Array Slot), nS ≤ n → zS ≤ z → mHp D n0 S M n s H locs → lv_has ls 5 [(0, .ref x0), (1, .ref x1), (2, .int x2), (3, .ref x3), (4, mrO x4)] → fb_X6_law_118 V k12 S M n z x0 x1 x2 x3 x4 y0 y1 = some (r, S', M', n', z') → W p l e (Rm_X6_law (n' - nS) (z' - zS)) s m args below meth c H locs (n - nS) (z - zS) (mMX below D n0 (moR r) S' M' n' args s (n' - nS) (z' - zS)) (F0 m 118 ls [.ref y0, .ref y1]) := by
  have hx := X.1.1
  have hb := X.1.2.1
  have hown := X.1.2.2.2.1
  have hts := X.1.2.2.2.2
  intro S M n z x0 x1 x2 x3 x4 y0 y1 H locs ls hn hz hp hl hF
  have hm0 := mn_X6_law_118 _ hmk12 hF
  unfold fb_X6_law_118 at hF
  refine lv_dup hx hb dX6_law_118 rfl ?_
  refine lv_iload_n hx hb dX6_law_119 rfl (lv_at hl 2 rfl) ?_
  refine lv_aload_n hx hb dX6_law_120 rfl (lv_at hl 3 rfl) ?_
  refine m_aloadO hx hb dX6_law_121 (lv_at hl 4 rfl) ?_
  obtain ⟨M70, e68, hF⟩ := ob_s hF
  refine m_callI (As := [.int x2, .ref x3, mrO x4]) (rest := [.ref y0, .ref y1]) X hp (w_X13_init e68) q898 q899 q160 q900 rfl 3 rfl ds_X13_init ⟨Nat.le_of_ble_eq_true rfl, Nat.le_of_ble_eq_true rfl⟩ hl.1 rfl (Nat.le_of_ble_eq_true rfl) dX6_law_123 ⟨by show _ + 0 ≤ n' - nS; omega, by show _ + 0 ≤ z' - zS; omega⟩ (fun H locs hp => ?_)
  obtain ⟨g71, hF⟩ := gd_s hF
  obtain ⟨⟨v73, S75, M74, n76, z77⟩, e72, hF⟩ := ob_s hF
  have hc := mn_J2_add e72
  have hm := (mn_X6_law_129 (V := V) k12 hmk12) hF
  refine m_callV (As := [.ref y0]) (rest := []) X hp (w_J2_add hV e72) q915 q314 q315 q138 q316 1 rfl ds_J2_add ⟨Nat.le_of_ble_eq_true rfl, Nat.le_of_ble_eq_true rfl⟩ 15 (T := TJ2) (N := 3) rfl (by decide) g71 hl.1 rfl (Nat.le_of_ble_eq_true rfl) dX6_law_126 ⟨by show _ ≤ n' - nS; omega, by show _ ≤ z' - zS; omega⟩ (fun H locs hp => ?_)
  refine W.widen (k := n76 - nS) (n := z77 - zS) (by omega) (by omega) ?_
  exact b_X6_law_129 hV hVs hs hVx X hX k12 hmk12 hk12 _ _ _ _ _ _ _ _ _ _ (by omega) (by omega) hp (lv_sub hl [0, 1] rfl) hF
def fb_X6_law_114 (V : Nat → Nat) (k12 : mSh → mMm → Nat → Nat → Nat → Nat → Option ((Nat ⊕ Nat) × mSh × mMm × Nat × Nat)) (S : mSh) (M : mMm) (n z : Nat) (x0 : Nat) (x1 : Nat) (x2 : Int32) (x3 : Nat) (x4 : Option Nat) : Option ((Nat ⊕ Nat) × mSh × mMm × Nat × Nat) := (fb_X6_law_118 V k12 (mS1 S n (13, 0)) (mM1 M n fun k => defaultValue (tyX13 k)) (n + 1) (z + 3) x0 x1 x2 x3 x4 n x1)
theorem mn_X6_law_114 {r : Nat ⊕ Nat} {S' : mSh} {M' : mMm} {n' z' : Nat} (k12 : mSh → mMm → Nat → Nat → Nat → Nat → Option ((Nat ⊕ Nat) × mSh × mMm × Nat × Nat)) (hmk12 : ∀ {S : mSh} {M : mMm} {n z : Nat} {x0 : Nat} {x1 : Nat}, k12 S M n z x0 x1 = some (r, S', M', n', z') → n ≤ n' ∧ z ≤ z') : ∀ {S : mSh} {M : mMm} {n z : Nat} {x0 : Nat} {x1 : Nat} {x2 : Int32} {x3 : Nat} {x4 : Option Nat}, fb_X6_law_114 V k12 S M n z x0 x1 x2 x3 x4 = some (r, S', M', n', z') → n ≤ n' ∧ z ≤ z' := by
  intro S M n z x0 x1 x2 x3 x4 hF
  unfold fb_X6_law_114 at hF
  have h9 := (mn_X6_law_118 (V := V) k12 hmk12) hF
  exact ⟨by omega, by omega⟩
theorem b_X6_law_114 {r : Nat ⊕ Nat} {S' : mSh} {M' : mMm} {n' z' : Nat} {nS zS : Nat} (hV : mV V n0 P) (hVs : mVs V n0 P) (hs : l.stackTraces = false) (hVx : mVx n0 P) (X : mCx D n0 P p m c cX6_law 5 s args yX6_law.cls meth (some (.object "java/util/ArrayList"))) (hX : ∀ x ∈ c.exceptionTable.toList, False) (k12 : mSh → mMm → Nat → Nat → Nat → Nat → Option ((Nat ⊕ Nat) × mSh × mMm × Nat × Nat)) (hmk12 : ∀ {S : mSh} {M : mMm} {n z : Nat} {x0 : Nat} {x1 : Nat}, k12 S M n z x0 x1 = some (r, S', M', n', z') → n ≤ n' ∧ z ≤ z') (hk12 : ∀ (S : mSh) (M : mMm) (n z : Nat) (x0 : Nat) (x1 : Nat) (H : Heap) (locs : List Loc) (ls : Array Slot), nS ≤ n → zS ≤ z → mHp D n0 S M n s H locs → lv_has ls 5 [(0, .ref x0), (1, .ref x1)] → k12 S M n z x0 x1 = some (r, S', M', n', z') → W p l e (Rm_X6_law (n' - nS) (z' - zS)) s m args below meth c H locs (n - nS) (z - zS) (mMX below D n0 (moR r) S' M' n' args s (n' - nS) (z' - zS)) (F0 m 12 ls [])) : ∀ (S : mSh) (M : mMm) (n z : Nat) (x0 : Nat) (x1 : Nat) (x2 : Int32) (x3 : Nat) (x4 : Option Nat) (H : Heap) (locs : List Loc) (ls : Array Slot), nS ≤ n → zS ≤ z → mHp D n0 S M n s H locs → lv_has ls 5 [(0, .ref x0), (1, .ref x1), (2, .int x2), (3, .ref x3), (4, mrO x4)] → fb_X6_law_114 V k12 S M n z x0 x1 x2 x3 x4 = some (r, S', M', n', z') → W p l e (Rm_X6_law (n' - nS) (z' - zS)) s m args below meth c H locs (n - nS) (z - zS) (mMX below D n0 (moR r) S' M' n' args s (n' - nS) (z' - zS)) (F0 m 114 ls []) := by
  have hx := X.1.1
  have hb := X.1.2.1
  have hown := X.1.2.2.2.1
  have hts := X.1.2.2.2.2
  intro S M n z x0 x1 x2 x3 x4 H locs ls hn hz hp hl hF
  have hm0 := mn_X6_law_114 _ hmk12 hF
  unfold fb_X6_law_114 at hF
  refine lv_aload_n hx hb dX6_law_114 rfl (lv_at hl 1 rfl) ?_
  have hm := (mn_X6_law_118 (V := V) k12 hmk12) hF
  refine m_new X hp kX13 q896 q897 q160 (by show _ ≤ n' - nS; omega) (by show _ ≤ z' - zS; omega) dX6_law_115 (fun H hp => ?_)
  refine W.widen (k := n + 1 - nS) (n := z + 3 - zS) (by omega) (by omega) ?_
  exact b_X6_law_118 hV hVs hs hVx X hX k12 hmk12 hk12 _ _ _ _ _ _ _ _ _ _ _ _ _ _ (by omega) (by omega) hp (lv_sub hl [0, 1, 2, 3, 4] rfl) hF
def fb_X6_law_108 (V : Nat → Nat) (k12 : mSh → mMm → Nat → Nat → Nat → Nat → Option ((Nat ⊕ Nat) × mSh × mMm × Nat × Nat)) (S : mSh) (M : mMm) (n z : Nat) (x0 : Nat) (x1 : Nat) (x2 : Int32) (x3 : Nat) (x4 : Option Nat) : Option ((Nat ⊕ Nat) × mSh × mMm × Nat × Nat) := gd ((S x0).1 = 7) (ob (f_X6_must V S M n z x0 (59 : Int32)) fun ⟨o65, S62, M61, n63, z64⟩ => xk o65 S62 M61 n63 z64 fun _ => (fb_X6_law_114 V k12 S62 M61 n63 z64 x0 x1 x2 x3 x4))
theorem mn_X6_law_108 {r : Nat ⊕ Nat} {S' : mSh} {M' : mMm} {n' z' : Nat} (k12 : mSh → mMm → Nat → Nat → Nat → Nat → Option ((Nat ⊕ Nat) × mSh × mMm × Nat × Nat)) (hmk12 : ∀ {S : mSh} {M : mMm} {n z : Nat} {x0 : Nat} {x1 : Nat}, k12 S M n z x0 x1 = some (r, S', M', n', z') → n ≤ n' ∧ z ≤ z') : ∀ {S : mSh} {M : mMm} {n z : Nat} {x0 : Nat} {x1 : Nat} {x2 : Int32} {x3 : Nat} {x4 : Option Nat}, fb_X6_law_108 V k12 S M n z x0 x1 x2 x3 x4 = some (r, S', M', n', z') → n ≤ n' ∧ z ≤ z' := by
  intro S M n z x0 x1 x2 x3 x4 hF
  unfold fb_X6_law_108 at hF
  obtain ⟨g58, hF⟩ := gd_s hF
  obtain ⟨⟨o65, S62, M61, n63, z64⟩, e59, hF⟩ := ob_s hF
  have hc := mn_X6_must e59
  rcases xk_s hF with ⟨v60, h66, hF⟩ | ⟨q67, h66, hF⟩
  · subst h66
    have h9 := (mn_X6_law_114 (V := V) k12 hmk12) hF
    exact ⟨by omega, by omega⟩
  · subst h66
    cases hF
    exact ⟨by omega, by omega⟩
theorem b_X6_law_108 {r : Nat ⊕ Nat} {S' : mSh} {M' : mMm} {n' z' : Nat} {nS zS : Nat} (hV : mV V n0 P) (hVs : mVs V n0 P) (hs : l.stackTraces = false) (hVx : mVx n0 P) (X : mCx D n0 P p m c cX6_law 5 s args yX6_law.cls meth (some (.object "java/util/ArrayList"))) (hX : ∀ x ∈ c.exceptionTable.toList, False) (k12 : mSh → mMm → Nat → Nat → Nat → Nat → Option ((Nat ⊕ Nat) × mSh × mMm × Nat × Nat)) (hmk12 : ∀ {S : mSh} {M : mMm} {n z : Nat} {x0 : Nat} {x1 : Nat}, k12 S M n z x0 x1 = some (r, S', M', n', z') → n ≤ n' ∧ z ≤ z') (hk12 : ∀ (S : mSh) (M : mMm) (n z : Nat) (x0 : Nat) (x1 : Nat) (H : Heap) (locs : List Loc) (ls : Array Slot), nS ≤ n → zS ≤ z → mHp D n0 S M n s H locs → lv_has ls 5 [(0, .ref x0), (1, .ref x1)] → k12 S M n z x0 x1 = some (r, S', M', n', z') → W p l e (Rm_X6_law (n' - nS) (z' - zS)) s m args below meth c H locs (n - nS) (z - zS) (mMX below D n0 (moR r) S' M' n' args s (n' - nS) (z' - zS)) (F0 m 12 ls [])) : ∀ (S : mSh) (M : mMm) (n z : Nat) (x0 : Nat) (x1 : Nat) (x2 : Int32) (x3 : Nat) (x4 : Option Nat) (H : Heap) (locs : List Loc) (ls : Array Slot), nS ≤ n → zS ≤ z → mHp D n0 S M n s H locs → lv_has ls 5 [(0, .ref x0), (1, .ref x1), (2, .int x2), (3, .ref x3), (4, mrO x4)] → fb_X6_law_108 V k12 S M n z x0 x1 x2 x3 x4 = some (r, S', M', n', z') → W p l e (Rm_X6_law (n' - nS) (z' - zS)) s m args below meth c H locs (n - nS) (z - zS) (mMX below D n0 (moR r) S' M' n' args s (n' - nS) (z' - zS)) (F0 m 108 ls []) := by
  have hx := X.1.1
  have hb := X.1.2.1
  have hown := X.1.2.2.2.1
  have hts := X.1.2.2.2.2
  intro S M n z x0 x1 x2 x3 x4 H locs ls hn hz hp hl hF
  have hm0 := mn_X6_law_108 _ hmk12 hF
  unfold fb_X6_law_108 at hF
  refine lv_aload_n hx hb dX6_law_108 rfl (lv_at hl 0 rfl) ?_
  refine lv_bipush (v := 59) hx hb dX6_law_109 (by decide) ?_
  obtain ⟨g58, hF⟩ := gd_s hF
  obtain ⟨⟨o65, S62, M61, n63, z64⟩, e59, hF⟩ := ob_s hF
  have hc := mn_X6_must e59
  rcases xk_s hF with ⟨v60, h66, hF⟩ | ⟨q67, h66, hF⟩
  · subst h66
    have hm := (mn_X6_law_114 (V := V) k12 hmk12) hF
    refine xm_callV (As := [.int (59 : Int32)]) (rest := []) X hp (w_X6_must hV hVs hs hVx e59) q892 q894 qs25 q148 q895 1 rfl ds_X6_must ⟨Nat.le_of_ble_eq_true rfl, Nat.le_of_ble_eq_true rfl⟩ 7 (T := TX6) (N := 10) rfl (by decide) g58 hl.1 rfl (Nat.le_of_ble_eq_true rfl) dX6_law_111 ⟨by show _ ≤ n' - nS; omega, by show _ ≤ z' - zS; omega⟩ (fun H locs hp => ?_)
    refine W.widen (k := n63 - nS) (n := z64 - zS) (by omega) (by omega) ?_
    exact b_X6_law_114 hV hVs hs hVx X hX k12 hmk12 hk12 _ _ _ _ _ _ _ _ _ _ _ _ (by omega) (by omega) hp (lv_sub hl [0, 1, 2, 3, 4] rfl) hF
  · subst h66
    cases hF
    exact xm_callVT (As := [.int (59 : Int32)]) (rest := []) X hX hp (w_X6_must hV hVs hs hVx e59) q892 q894 qs25 q148 q895 1 rfl ds_X6_must ⟨Nat.le_of_ble_eq_true rfl, Nat.le_of_ble_eq_true rfl⟩ 7 (T := TX6) (N := 10) rfl (by decide) g58 hl.1 rfl (Nat.le_of_ble_eq_true rfl) dX6_law_111 ⟨by show _ ≤ n' - nS; omega, by show _ ≤ z' - zS; omega⟩ ⟨by omega, by omega⟩
def fb_X6_law_106 (V : Nat → Nat) (k12 : mSh → mMm → Nat → Nat → Nat → Nat → Option ((Nat ⊕ Nat) × mSh × mMm × Nat × Nat)) (S : mSh) (M : mMm) (n z : Nat) (x0 : Nat) (x1 : Nat) (x2 : Int32) (x3 : Nat) (y0 : Nat) : Option ((Nat ⊕ Nat) × mSh × mMm × Nat × Nat) := (fb_X6_law_108 V k12 S M n z x0 x1 x2 x3 (some y0))
theorem mn_X6_law_106 {r : Nat ⊕ Nat} {S' : mSh} {M' : mMm} {n' z' : Nat} (k12 : mSh → mMm → Nat → Nat → Nat → Nat → Option ((Nat ⊕ Nat) × mSh × mMm × Nat × Nat)) (hmk12 : ∀ {S : mSh} {M : mMm} {n z : Nat} {x0 : Nat} {x1 : Nat}, k12 S M n z x0 x1 = some (r, S', M', n', z') → n ≤ n' ∧ z ≤ z') : ∀ {S : mSh} {M : mMm} {n z : Nat} {x0 : Nat} {x1 : Nat} {x2 : Int32} {x3 : Nat} {y0 : Nat}, fb_X6_law_106 V k12 S M n z x0 x1 x2 x3 y0 = some (r, S', M', n', z') → n ≤ n' ∧ z ≤ z' := by
  intro S M n z x0 x1 x2 x3 y0 hF
  unfold fb_X6_law_106 at hF
  have h9 := (mn_X6_law_108 (V := V) k12 hmk12) hF
  exact ⟨by omega, by omega⟩
theorem b_X6_law_106 {r : Nat ⊕ Nat} {S' : mSh} {M' : mMm} {n' z' : Nat} {nS zS : Nat} (hV : mV V n0 P) (hVs : mVs V n0 P) (hs : l.stackTraces = false) (hVx : mVx n0 P) (X : mCx D n0 P p m c cX6_law 5 s args yX6_law.cls meth (some (.object "java/util/ArrayList"))) (hX : ∀ x ∈ c.exceptionTable.toList, False) (k12 : mSh → mMm → Nat → Nat → Nat → Nat → Option ((Nat ⊕ Nat) × mSh × mMm × Nat × Nat)) (hmk12 : ∀ {S : mSh} {M : mMm} {n z : Nat} {x0 : Nat} {x1 : Nat}, k12 S M n z x0 x1 = some (r, S', M', n', z') → n ≤ n' ∧ z ≤ z') (hk12 : ∀ (S : mSh) (M : mMm) (n z : Nat) (x0 : Nat) (x1 : Nat) (H : Heap) (locs : List Loc) (ls : Array Slot), nS ≤ n → zS ≤ z → mHp D n0 S M n s H locs → lv_has ls 5 [(0, .ref x0), (1, .ref x1)] → k12 S M n z x0 x1 = some (r, S', M', n', z') → W p l e (Rm_X6_law (n' - nS) (z' - zS)) s m args below meth c H locs (n - nS) (z - zS) (mMX below D n0 (moR r) S' M' n' args s (n' - nS) (z' - zS)) (F0 m 12 ls [])) : ∀ (S : mSh) (M : mMm) (n z : Nat) (x0 : Nat) (x1 : Nat) (x2 : Int32) (x3 : Nat) (y0 : Nat) (H : Heap) (locs : List Loc) (ls : Array Slot), nS ≤ n → zS ≤ z → mHp D n0 S M n s H locs → lv_has ls 5 [(0, .ref x0), (1, .ref x1), (2, .int x2), (3, .ref x3)] → fb_X6_law_106 V k12 S M n z x0 x1 x2 x3 y0 = some (r, S', M', n', z') → W p l e (Rm_X6_law (n' - nS) (z' - zS)) s m args below meth c H locs (n - nS) (z - zS) (mMX below D n0 (moR r) S' M' n' args s (n' - nS) (z' - zS)) (F0 m 106 ls [.ref y0]) := by
  have hx := X.1.1
  have hb := X.1.2.1
  have hown := X.1.2.2.2.1
  have hts := X.1.2.2.2.2
  intro S M n z x0 x1 x2 x3 y0 H locs ls hn hz hp hl hF
  have hm0 := mn_X6_law_106 _ hmk12 hF
  unfold fb_X6_law_106 at hF
  refine m_astoreO (x := (some y0)) (lv' := [(4, mrO (some y0)), (0, .ref x0), (1, .ref x1), (2, .int x2), (3, .ref x3)]) hx hb dX6_law_106 hl (by decide) rfl (fun ls hl => ?_)
  exact b_X6_law_108 hV hVs hs hVx X hX k12 hmk12 hk12 _ _ _ _ _ _ _ _ _ _ _ _ (by omega) (by omega) hp (lv_sub hl [1, 2, 3, 4, 0] rfl) hF
def fb_X6_law_86 (V : Nat → Nat) (k12 : mSh → mMm → Nat → Nat → Nat → Nat → Option ((Nat ⊕ Nat) × mSh × mMm × Nat × Nat)) (S : mSh) (M : mMm) (n z : Nat) (x0 : Nat) (x1 : Nat) (x2 : Int32) (y0 : Nat) : Option ((Nat ⊕ Nat) × mSh × mMm × Nat × Nat) := ob (rI S M x0 7 5) fun v43 => (if v43 = (3 : Int32) then ob (f_X6_next V S M x0) fun M48 => ob (f_X6_any V S M48 n z x0) fun ⟨o55, S52, M51, n53, z54⟩ => xk o55 S52 M51 n53 z54 fun v50 => (fb_X6_law_106 V k12 S52 M51 n53 z54 x0 x1 x2 y0 v50) else (fb_X6_law_108 V k12 S M n z x0 x1 x2 y0 none))
theorem mn_X6_law_86 {r : Nat ⊕ Nat} {S' : mSh} {M' : mMm} {n' z' : Nat} (k12 : mSh → mMm → Nat → Nat → Nat → Nat → Option ((Nat ⊕ Nat) × mSh × mMm × Nat × Nat)) (hmk12 : ∀ {S : mSh} {M : mMm} {n z : Nat} {x0 : Nat} {x1 : Nat}, k12 S M n z x0 x1 = some (r, S', M', n', z') → n ≤ n' ∧ z ≤ z') : ∀ {S : mSh} {M : mMm} {n z : Nat} {x0 : Nat} {x1 : Nat} {x2 : Int32} {y0 : Nat}, fb_X6_law_86 V k12 S M n z x0 x1 x2 y0 = some (r, S', M', n', z') → n ≤ n' ∧ z ≤ z' := by
  intro S M n z x0 x1 x2 y0 hF
  unfold fb_X6_law_86 at hF
  obtain ⟨v43, e44, hF⟩ := ob_s hF
  rcases (Decidable.em (v43 = (3 : Int32))).symm with c45 | c45
  · have hF := if_n c45 hF
    have h9 := (mn_X6_law_108 (V := V) k12 hmk12) hF
    exact ⟨by omega, by omega⟩
  · have hF := if_p c45 hF
    obtain ⟨M48, e46, hF⟩ := ob_s hF
    obtain ⟨⟨o55, S52, M51, n53, z54⟩, e49, hF⟩ := ob_s hF
    have hc := mn_X6_any e49
    rcases xk_s hF with ⟨v50, h56, hF⟩ | ⟨q57, h56, hF⟩
    · subst h56
      have h9 := (mn_X6_law_106 (V := V) k12 hmk12) hF
      exact ⟨by omega, by omega⟩
    · subst h56
      cases hF
      exact ⟨by omega, by omega⟩
theorem b_X6_law_86 {r : Nat ⊕ Nat} {S' : mSh} {M' : mMm} {n' z' : Nat} {nS zS : Nat} (hV : mV V n0 P) (hVs : mVs V n0 P) (hs : l.stackTraces = false) (hVx : mVx n0 P) (X : mCx D n0 P p m c cX6_law 5 s args yX6_law.cls meth (some (.object "java/util/ArrayList"))) (hX : ∀ x ∈ c.exceptionTable.toList, False) (k12 : mSh → mMm → Nat → Nat → Nat → Nat → Option ((Nat ⊕ Nat) × mSh × mMm × Nat × Nat)) (hmk12 : ∀ {S : mSh} {M : mMm} {n z : Nat} {x0 : Nat} {x1 : Nat}, k12 S M n z x0 x1 = some (r, S', M', n', z') → n ≤ n' ∧ z ≤ z') (hk12 : ∀ (S : mSh) (M : mMm) (n z : Nat) (x0 : Nat) (x1 : Nat) (H : Heap) (locs : List Loc) (ls : Array Slot), nS ≤ n → zS ≤ z → mHp D n0 S M n s H locs → lv_has ls 5 [(0, .ref x0), (1, .ref x1)] → k12 S M n z x0 x1 = some (r, S', M', n', z') → W p l e (Rm_X6_law (n' - nS) (z' - zS)) s m args below meth c H locs (n - nS) (z - zS) (mMX below D n0 (moR r) S' M' n' args s (n' - nS) (z' - zS)) (F0 m 12 ls [])) : ∀ (S : mSh) (M : mMm) (n z : Nat) (x0 : Nat) (x1 : Nat) (x2 : Int32) (y0 : Nat) (H : Heap) (locs : List Loc) (ls : Array Slot), nS ≤ n → zS ≤ z → mHp D n0 S M n s H locs → lv_has ls 5 [(0, .ref x0), (1, .ref x1), (2, .int x2)] → fb_X6_law_86 V k12 S M n z x0 x1 x2 y0 = some (r, S', M', n', z') → W p l e (Rm_X6_law (n' - nS) (z' - zS)) s m args below meth c H locs (n - nS) (z - zS) (mMX below D n0 (moR r) S' M' n' args s (n' - nS) (z' - zS)) (F0 m 86 ls [.ref y0]) := by
  have hx := X.1.1
  have hb := X.1.2.1
  have hown := X.1.2.2.2.1
  have hts := X.1.2.2.2.2
  intro S M n z x0 x1 x2 y0 H locs ls hn hz hp hl hF
  have hm0 := mn_X6_law_86 _ hmk12 hF
  unfold fb_X6_law_86 at hF
  refine lv_astore_n (lv' := [(3, .ref y0), (0, .ref x0), (1, .ref x1), (2, .int x2)]) hx hb dX6_law_86 rfl hl (by decide) rfl (fun ls hl => ?_)
  refine lv_null hx hb dX6_law_87 ?_
  refine m_astoreO (x := none) (lv' := [(4, mrO none), (3, .ref y0), (0, .ref x0), (1, .ref x1), (2, .int x2)]) hx hb dX6_law_88 hl (by decide) rfl (fun ls hl => ?_)
  refine lv_aload_n hx hb dX6_law_90 rfl (lv_at hl 2 rfl) ?_
  obtain ⟨v43, e44, hF⟩ := ob_s hF
  refine m_getI X hp e44 kX6 (Nat.le_of_ble_eq_true rfl) q590 dX6_law_91 ?_
  refine lv_iconst (v := 3) hx hb dX6_law_94 (by decide) ?_
  refine lv_icmp_ne (tgt := 108) hx hb dX6_law_95 (by decide) (fun c45 => ?_) (fun c45 => ?_)
  · have hF := if_n c45 hF
    exact b_X6_law_108 hV hVs hs hVx X hX k12 hmk12 hk12 _ _ _ _ _ _ _ _ _ _ _ _ (by omega) (by omega) hp (lv_sub hl [2, 3, 4, 1, 0] rfl) hF
  · have hF := if_p c45 hF
    refine lv_aload_n hx hb dX6_law_98 rfl (lv_at hl 2 rfl) ?_
    obtain ⟨M48, e46, hF⟩ := ob_s hF
    refine m_callV (As := []) (rest := []) X hp (w_X6_next hVs e46) q621 q623 qs5 q148 q624 0 rfl ds_X6_next ⟨Nat.le_of_ble_eq_true rfl, Nat.le_of_ble_eq_true rfl⟩ 7 (T := TX6) (N := 10) rfl (by decide) (rI_s e44).1 hl.1 rfl (Nat.le_of_ble_eq_true rfl) dX6_law_99 ⟨by show _ + 0 ≤ n' - nS; omega, by show _ + 0 ≤ z' - zS; omega⟩ (fun H locs hp => ?_)
    refine lv_aload_n hx hb dX6_law_102 rfl (lv_at hl 2 rfl) ?_
    obtain ⟨⟨o55, S52, M51, n53, z54⟩, e49, hF⟩ := ob_s hF
    have hc := mn_X6_any e49
    rcases xk_s hF with ⟨v50, h56, hF⟩ | ⟨q57, h56, hF⟩
    · subst h56
      have hm := (mn_X6_law_106 (V := V) k12 hmk12) hF
      refine xm_callV (As := []) (rest := []) X hp (w_X6_any hV hVs hs hVx e49) q866 q868 qs21 q148 q869 0 rfl ds_X6_any ⟨Nat.le_of_ble_eq_true rfl, Nat.le_of_ble_eq_true rfl⟩ 7 (T := TX6) (N := 10) rfl (by decide) (rI_s e44).1 hl.1 rfl (Nat.le_of_ble_eq_true rfl) dX6_law_103 ⟨by show _ ≤ n' - nS; omega, by show _ ≤ z' - zS; omega⟩ (fun H locs hp => ?_)
      refine W.widen (k := n53 - nS) (n := z54 - zS) (by omega) (by omega) ?_
      exact b_X6_law_106 hV hVs hs hVx X hX k12 hmk12 hk12 _ _ _ _ _ _ _ _ _ _ _ _ (by omega) (by omega) hp (lv_sub hl [2, 3, 4, 1] rfl) hF
    · subst h56
      cases hF
      exact xm_callVT (As := []) (rest := []) X hX hp (w_X6_any hV hVs hs hVx e49) q866 q868 qs21 q148 q869 0 rfl ds_X6_any ⟨Nat.le_of_ble_eq_true rfl, Nat.le_of_ble_eq_true rfl⟩ 7 (T := TX6) (N := 10) rfl (by decide) (rI_s e44).1 hl.1 rfl (Nat.le_of_ble_eq_true rfl) dX6_law_103 ⟨by show _ ≤ n' - nS; omega, by show _ ≤ z' - zS; omega⟩ ⟨by omega, by omega⟩
def fb_X6_law_12 (V : Nat → Nat) : Nat → mSh → mMm → Nat → Nat → Nat → Nat → Option ((Nat ⊕ Nat) × mSh × mMm × Nat × Nat)
  | 0, _, _, _, _, _, _ => none
  | t + 1, S, M, n, z, x0, x1 => ob (rI S M x0 7 5) fun v11 => (if v11 = 0 then some (.inl x1, S, M, n, z) else ob (rI S M x0 7 5) fun v14 => ob (f_X0_isIn v14 (7 : Int32) (9 : Int32)) fun v17 => (if v17 = 0 then ob (rI S M x0 7 4) fun v41 => some (.inr n, mSF S n, mMF M n (1 : Int32) v41, n + 1, z + 8) else gd ((S x1).1 = 15) (ob (f_J2_size S M x1) fun v21 => (if v21 = (16 : Int32) then ob (rI S M x0 7 4) fun v39 => some (.inr n, mSF S n, mMF M n (3 : Int32) v39, n + 1, z + 8) else ob (rI S M x0 7 5) fun v23 => ob (wF S M x0 7 7 (.int (0 : Int32))) fun M25 => ob (f_X6_next V S M25 x0) fun M29 => ob (f_X6_sum V S M29 n z x0) fun ⟨o36, S33, M32, n34, z35⟩ => xk o36 S33 M32 n34 z35 fun v31 => (fb_X6_law_86 V (fb_X6_law_12 V t) S33 M32 n34 z35 x0 x1 v23 v31)))))
theorem mn_X6_law_12 {r : Nat ⊕ Nat} {S' : mSh} {M' : mMm} {n' z' : Nat} : ∀ {t : Nat} {S : mSh} {M : mMm} {n z : Nat} {x0 : Nat} {x1 : Nat}, fb_X6_law_12 V t S M n z x0 x1 = some (r, S', M', n', z') → n ≤ n' ∧ z ≤ z' := by
  intro t
  induction t with
  | zero =>
    intro S M n z x0 x1 hF
    have hF : none = some (r, S', M', n', z') := hF
    cases hF
  | succ t ihm =>
    intro S M n z x0 x1 hF
    rw [fb_X6_law_12] at hF
    obtain ⟨v11, e12, hF⟩ := ob_s hF
    rcases Decidable.em (v11 = 0) with c13 | c13
    · have hF := if_p c13 hF
      cases hF
      exact ⟨Nat.le_refl _, Nat.le_refl _⟩
    · have hF := if_n c13 hF
      obtain ⟨v14, e15, hF⟩ := ob_s hF
      obtain ⟨v17, e16, hF⟩ := ob_s hF
      rcases (Decidable.em (v17 = 0)).symm with c18 | c18
      · have hF := if_n c18 hF
        obtain ⟨g19, hF⟩ := gd_s hF
        obtain ⟨v21, e20, hF⟩ := ob_s hF
        rcases (Decidable.em (v21 = (16 : Int32))).symm with c22 | c22
        · have hF := if_n c22 hF
          obtain ⟨v23, e24, hF⟩ := ob_s hF
          obtain ⟨M25, e26, hF⟩ := ob_s hF
          obtain ⟨M29, e27, hF⟩ := ob_s hF
          obtain ⟨⟨o36, S33, M32, n34, z35⟩, e30, hF⟩ := ob_s hF
          have hc := mn_X6_sum e30
          rcases xk_s hF with ⟨v31, h37, hF⟩ | ⟨q38, h37, hF⟩
          · subst h37
            have h9 := (mn_X6_law_86 (V := V) (fb_X6_law_12 V t) @ihm) hF
            exact ⟨by omega, by omega⟩
          · subst h37
            cases hF
            exact ⟨by omega, by omega⟩
        · have hF := if_p c22 hF
          obtain ⟨v39, e40, hF⟩ := ob_s hF
          cases hF
          exact ⟨by omega, by omega⟩
      · have hF := if_p c18 hF
        obtain ⟨v41, e42, hF⟩ := ob_s hF
        cases hF
        exact ⟨by omega, by omega⟩
theorem b_X6_law_12 {r : Nat ⊕ Nat} {S' : mSh} {M' : mMm} {n' z' : Nat} {nS zS : Nat} (hV : mV V n0 P) (hVs : mVs V n0 P) (hs : l.stackTraces = false) (hVx : mVx n0 P) (X : mCx D n0 P p m c cX6_law 5 s args yX6_law.cls meth (some (.object "java/util/ArrayList"))) (hX : ∀ x ∈ c.exceptionTable.toList, False) : ∀ t : Nat, ∀ (S : mSh) (M : mMm) (n z : Nat) (x0 : Nat) (x1 : Nat) (H : Heap) (locs : List Loc) (ls : Array Slot), nS ≤ n → zS ≤ z → mHp D n0 S M n s H locs → lv_has ls 5 [(0, .ref x0), (1, .ref x1)] → fb_X6_law_12 V t S M n z x0 x1 = some (r, S', M', n', z') → W p l e (Rm_X6_law (n' - nS) (z' - zS)) s m args below meth c H locs (n - nS) (z - zS) (mMX below D n0 (moR r) S' M' n' args s (n' - nS) (z' - zS)) (F0 m 12 ls []) := by
  have hx := X.1.1
  have hb := X.1.2.1
  have hown := X.1.2.2.2.1
  have hts := X.1.2.2.2.2
  intro t
  induction t with
  | zero =>
    intro S M n z x0 x1 H locs ls hn hz hp hl hF
    have hF : none = some (r, S', M', n', z') := hF
    cases hF
  | succ t ih =>
    intro S M n z x0 x1 H locs ls hn hz hp hl hF
    have ihm := @mn_X6_law_12 V r S' M' n' z' t
    have hm0 := mn_X6_law_12 hF
    rw [fb_X6_law_12] at hF
    refine lv_aload_n hx hb dX6_law_12 rfl (lv_at hl 0 rfl) ?_
    obtain ⟨v11, e12, hF⟩ := ob_s hF
    refine m_getI X hp e12 kX6 (Nat.le_of_ble_eq_true rfl) q590 dX6_law_13 ?_
    refine lv_if_eq (tgt := 133) hx hb dX6_law_16 (by decide) (fun c13 => ?_) (fun c13 => ?_)
    · have hF := if_p c13 hF
      refine lv_aload_n hx hb dX6_law_133 rfl (lv_at hl 1 rfl) ?_
      cases hF
      exact xm_ret (m_aret X hp (Or.inl ⟨_, rfl⟩) dX6_law_134)
    · have hF := if_n c13 hF
      refine lv_aload_n hx hb dX6_law_19 rfl (lv_at hl 0 rfl) ?_
      obtain ⟨v14, e15, hF⟩ := ob_s hF
      refine m_getI X hp e15 kX6 (Nat.le_of_ble_eq_true rfl) q590 dX6_law_20 ?_
      refine lv_bipush (v := 7) hx hb dX6_law_23 (by decide) ?_
      refine lv_bipush (v := 9) hx hb dX6_law_25 (by decide) ?_
      obtain ⟨v17, e16, hF⟩ := ob_s hF
      refine m_callSN (As := [.int v14, .int (7 : Int32), .int (9 : Int32)]) (rest := []) X hp (w_X0_isIn e16) q633 q566 q132 q567 3 rfl ds_X0_isIn ⟨Nat.le_of_ble_eq_true rfl, Nat.le_of_ble_eq_true rfl⟩ hl.1 rfl (Nat.le_of_ble_eq_true rfl) dX6_law_27 ⟨by show _ + 0 ≤ n' - nS; omega, by show _ + 0 ≤ z' - zS; omega⟩ (fun H locs hp => ?_)
      refine lv_if_ne (tgt := 46) hx hb dX6_law_30 (by decide) (fun c18 => ?_) (fun c18 => ?_)
      · have hF := if_n c18 hF
        refine lv_aload_n hx hb dX6_law_46 rfl (lv_at hl 1 rfl) ?_
        obtain ⟨g19, hF⟩ := gd_s hF
        obtain ⟨v21, e20, hF⟩ := ob_s hF
        refine m_callV (As := []) (rest := []) X hp (w_J2_size e20) q807 q808 q809 q138 q810 0 rfl ds_J2_size ⟨Nat.le_of_ble_eq_true rfl, Nat.le_of_ble_eq_true rfl⟩ 15 (T := TJ2) (N := 3) rfl (by decide) g19 hl.1 rfl (Nat.le_of_ble_eq_true rfl) dX6_law_47 ⟨by show _ + 0 ≤ n' - nS; omega, by show _ + 0 ≤ z' - zS; omega⟩ (fun H locs hp => ?_)
        refine lv_bipush (v := 16) hx hb dX6_law_50 (by decide) ?_
        refine lv_icmp_ne (tgt := 68) hx hb dX6_law_52 (by decide) (fun c22 => ?_) (fun c22 => ?_)
        · have hF := if_n c22 hF
          refine lv_aload_n hx hb dX6_law_68 rfl (lv_at hl 0 rfl) ?_
          obtain ⟨v23, e24, hF⟩ := ob_s hF
          refine m_getI X hp e24 kX6 (Nat.le_of_ble_eq_true rfl) q590 dX6_law_69 ?_
          refine lv_istore_n (lv' := [(2, .int v23), (0, .ref x0), (1, .ref x1)]) hx hb dX6_law_72 rfl hl (by decide) rfl (fun ls hl => ?_)
          refine lv_aload_n hx hb dX6_law_73 rfl (lv_at hl 1 rfl) ?_
          refine lv_iconst (v := 0) hx hb dX6_law_74 (by decide) ?_
          obtain ⟨M25, e26, hF⟩ := ob_s hF
          refine m_putW X hp e26 kX6 (Nat.le_of_ble_eq_true rfl) q592 rfl rfl rfl dX6_law_75 (fun H locs hp => ?_)
          refine lv_aload_n hx hb dX6_law_78 rfl (lv_at hl 1 rfl) ?_
          obtain ⟨M29, e27, hF⟩ := ob_s hF
          refine m_callV (As := []) (rest := []) X hp (w_X6_next hVs e27) q621 q623 qs5 q148 q624 0 rfl ds_X6_next ⟨Nat.le_of_ble_eq_true rfl, Nat.le_of_ble_eq_true rfl⟩ 7 (T := TX6) (N := 10) rfl (by decide) (wF_s e26).1 hl.1 rfl (Nat.le_of_ble_eq_true rfl) dX6_law_79 ⟨by show _ + 0 ≤ n' - nS; omega, by show _ + 0 ≤ z' - zS; omega⟩ (fun H locs hp => ?_)
          refine lv_aload_n hx hb dX6_law_82 rfl (lv_at hl 1 rfl) ?_
          obtain ⟨⟨o36, S33, M32, n34, z35⟩, e30, hF⟩ := ob_s hF
          have hc := mn_X6_sum e30
          rcases xk_s hF with ⟨v31, h37, hF⟩ | ⟨q38, h37, hF⟩
          · subst h37
            have hm := (mn_X6_law_86 (V := V) (fb_X6_law_12 V t) @ihm) hF
            refine xm_callV (As := []) (rest := []) X hp (w_X6_sum hV hVs hs hVx e30) q811 q813 qs17 q148 q814 0 rfl ds_X6_sum ⟨Nat.le_of_ble_eq_true rfl, Nat.le_of_ble_eq_true rfl⟩ 7 (T := TX6) (N := 10) rfl (by decide) (wF_s e26).1 hl.1 rfl (Nat.le_of_ble_eq_true rfl) dX6_law_83 ⟨by show _ ≤ n' - nS; omega, by show _ ≤ z' - zS; omega⟩ (fun H locs hp => ?_)
            refine W.widen (k := n34 - nS) (n := z35 - zS) (by omega) (by omega) ?_
            exact b_X6_law_86 hV hVs hs hVx X hX (fb_X6_law_12 V t) @ihm ih _ _ _ _ _ _ _ _ _ _ _ (by omega) (by omega) hp (lv_sub hl [1, 2, 0] rfl) hF
          · subst h37
            cases hF
            exact xm_callVT (As := []) (rest := []) X hX hp (w_X6_sum hV hVs hs hVx e30) q811 q813 qs17 q148 q814 0 rfl ds_X6_sum ⟨Nat.le_of_ble_eq_true rfl, Nat.le_of_ble_eq_true rfl⟩ 7 (T := TX6) (N := 10) rfl (by decide) (wF_s e26).1 hl.1 rfl (Nat.le_of_ble_eq_true rfl) dX6_law_83 ⟨by show _ ≤ n' - nS; omega, by show _ ≤ z' - zS; omega⟩ ⟨by omega, by omega⟩
        · have hF := if_p c22 hF
          obtain ⟨v39, e40, hF⟩ := ob_s hF
          cases hF
          exact xm_throw (rest := []) (kd := 3) X hX hs hVx hp (lv_at hl 0 rfl) hl.1 (by decide) e40 dX6_law_55 dX6_law_58 dX6_law_59 dX6_law_60 dX6_law_61 dX6_law_64 dX6_law_67 (Nat.le_of_ble_eq_true rfl) ⟨Nat.le_of_ble_eq_true rfl, Nat.le_of_ble_eq_true rfl⟩ ⟨by show _ ≤ n + 1 - nS; omega, by show _ ≤ z + 8 - zS; omega⟩ ⟨by omega, by omega⟩
      · have hF := if_p c18 hF
        obtain ⟨v41, e42, hF⟩ := ob_s hF
        cases hF
        exact xm_throw (rest := []) (kd := 1) X hX hs hVx hp (lv_at hl 0 rfl) hl.1 (by decide) e42 dX6_law_33 dX6_law_36 dX6_law_37 dX6_law_38 dX6_law_39 dX6_law_42 dX6_law_45 (Nat.le_of_ble_eq_true rfl) ⟨Nat.le_of_ble_eq_true rfl, Nat.le_of_ble_eq_true rfl⟩ ⟨by show _ ≤ n + 1 - nS; omega, by show _ ≤ z + 8 - zS; omega⟩ ⟨by omega, by omega⟩
def fb_X6_law_7 (V : Nat → Nat) (S : mSh) (M : mMm) (n z : Nat) (x0 : Nat) (y0 : Nat) : Option ((Nat ⊕ Nat) × mSh × mMm × Nat × Nat) := gd ((S x0).1 = 7) (ob (f_X6_next V S M x0) fun M10 => (fb_X6_law_12 V FU S M10 n z x0 y0))
theorem mn_X6_law_7 {r : Nat ⊕ Nat} {S' : mSh} {M' : mMm} {n' z' : Nat} : ∀ {S : mSh} {M : mMm} {n z : Nat} {x0 : Nat} {y0 : Nat}, fb_X6_law_7 V S M n z x0 y0 = some (r, S', M', n', z') → n ≤ n' ∧ z ≤ z' := by
  intro S M n z x0 y0 hF
  unfold fb_X6_law_7 at hF
  obtain ⟨g7, hF⟩ := gd_s hF
  obtain ⟨M10, e8, hF⟩ := ob_s hF
  have h9 := (mn_X6_law_12 (V := V)) hF
  exact ⟨by omega, by omega⟩
theorem b_X6_law_7 {r : Nat ⊕ Nat} {S' : mSh} {M' : mMm} {n' z' : Nat} {nS zS : Nat} (hV : mV V n0 P) (hVs : mVs V n0 P) (hs : l.stackTraces = false) (hVx : mVx n0 P) (X : mCx D n0 P p m c cX6_law 5 s args yX6_law.cls meth (some (.object "java/util/ArrayList"))) (hX : ∀ x ∈ c.exceptionTable.toList, False) : ∀ (S : mSh) (M : mMm) (n z : Nat) (x0 : Nat) (y0 : Nat) (H : Heap) (locs : List Loc) (ls : Array Slot), nS ≤ n → zS ≤ z → mHp D n0 S M n s H locs → lv_has ls 5 [(0, .ref x0)] → fb_X6_law_7 V S M n z x0 y0 = some (r, S', M', n', z') → W p l e (Rm_X6_law (n' - nS) (z' - zS)) s m args below meth c H locs (n - nS) (z - zS) (mMX below D n0 (moR r) S' M' n' args s (n' - nS) (z' - zS)) (F0 m 7 ls [.ref y0]) := by
  have hx := X.1.1
  have hb := X.1.2.1
  have hown := X.1.2.2.2.1
  have hts := X.1.2.2.2.2
  intro S M n z x0 y0 H locs ls hn hz hp hl hF
  have hm0 := mn_X6_law_7 hF
  unfold fb_X6_law_7 at hF
  refine lv_astore_n (lv' := [(1, .ref y0), (0, .ref x0)]) hx hb dX6_law_7 rfl hl (by decide) rfl (fun ls hl => ?_)
  refine lv_aload_n hx hb dX6_law_8 rfl (lv_at hl 1 rfl) ?_
  obtain ⟨g7, hF⟩ := gd_s hF
  obtain ⟨M10, e8, hF⟩ := ob_s hF
  refine m_callV (As := []) (rest := []) X hp (w_X6_next hVs e8) q621 q623 qs5 q148 q624 0 rfl ds_X6_next ⟨Nat.le_of_ble_eq_true rfl, Nat.le_of_ble_eq_true rfl⟩ 7 (T := TX6) (N := 10) rfl (by decide) g7 hl.1 rfl (Nat.le_of_ble_eq_true rfl) dX6_law_9 ⟨by show _ + 0 ≤ n' - nS; omega, by show _ + 0 ≤ z' - zS; omega⟩ (fun H locs hp => ?_)
  exact b_X6_law_12 hV hVs hs hVx X hX _ _ _ _ _ _ _ _ _ _ (by omega) (by omega) hp (lv_sub hl [1, 0] rfl) hF
def fb_X6_law_3 (V : Nat → Nat) (S : mSh) (M : mMm) (n z : Nat) (x0 : Nat) (y0 : Nat) : Option ((Nat ⊕ Nat) × mSh × mMm × Nat × Nat) := ob (f_J2_init V S M n z y0) fun ⟨S4, M3, n5, z6⟩ => (fb_X6_law_7 V S4 M3 n5 z6 x0 y0)
theorem mn_X6_law_3 {r : Nat ⊕ Nat} {S' : mSh} {M' : mMm} {n' z' : Nat} : ∀ {S : mSh} {M : mMm} {n z : Nat} {x0 : Nat} {y0 : Nat}, fb_X6_law_3 V S M n z x0 y0 = some (r, S', M', n', z') → n ≤ n' ∧ z ≤ z' := by
  intro S M n z x0 y0 hF
  unfold fb_X6_law_3 at hF
  obtain ⟨⟨S4, M3, n5, z6⟩, e1, hF⟩ := ob_s hF
  have hc := mn_J2_init e1
  have h9 := (mn_X6_law_7 (V := V)) hF
  exact ⟨by omega, by omega⟩
theorem b_X6_law_3 {r : Nat ⊕ Nat} {S' : mSh} {M' : mMm} {n' z' : Nat} {nS zS : Nat} (hV : mV V n0 P) (hVs : mVs V n0 P) (hs : l.stackTraces = false) (hVx : mVx n0 P) (X : mCx D n0 P p m c cX6_law 5 s args yX6_law.cls meth (some (.object "java/util/ArrayList"))) (hX : ∀ x ∈ c.exceptionTable.toList, False) : ∀ (S : mSh) (M : mMm) (n z : Nat) (x0 : Nat) (y0 : Nat) (H : Heap) (locs : List Loc) (ls : Array Slot), nS ≤ n → zS ≤ z → mHp D n0 S M n s H locs → lv_has ls 5 [(0, .ref x0)] → fb_X6_law_3 V S M n z x0 y0 = some (r, S', M', n', z') → W p l e (Rm_X6_law (n' - nS) (z' - zS)) s m args below meth c H locs (n - nS) (z - zS) (mMX below D n0 (moR r) S' M' n' args s (n' - nS) (z' - zS)) (F0 m 3 ls [.ref y0]) := by
  have hx := X.1.1
  have hb := X.1.2.1
  have hown := X.1.2.2.2.1
  have hts := X.1.2.2.2.2
  intro S M n z x0 y0 H locs ls hn hz hp hl hF
  have hm0 := mn_X6_law_3 hF
  unfold fb_X6_law_3 at hF
  refine lv_dup hx hb dX6_law_3 rfl ?_
  obtain ⟨⟨S4, M3, n5, z6⟩, e1, hF⟩ := ob_s hF
  have hc := mn_J2_init e1
  have hm := (mn_X6_law_7 (V := V)) hF
  refine m_callI (As := []) (rest := [.ref y0]) X hp (w_J2_init hV e1) q584 q223 q138 q224 rfl 0 rfl ds_J2_init ⟨Nat.le_of_ble_eq_true rfl, Nat.le_of_ble_eq_true rfl⟩ hl.1 rfl (Nat.le_of_ble_eq_true rfl) dX6_law_4 ⟨by show _ ≤ n' - nS; omega, by show _ ≤ z' - zS; omega⟩ (fun H locs hp => ?_)
  refine W.widen (k := n5 - nS) (n := z6 - zS) (by omega) (by omega) ?_
  exact b_X6_law_7 hV hVs hs hVx X hX _ _ _ _ _ _ _ _ _ (by omega) (by omega) hp (lv_sub hl [0] rfl) hF
def fb_X6_law_0 (V : Nat → Nat) (S : mSh) (M : mMm) (n z : Nat) (x0 : Nat) : Option ((Nat ⊕ Nat) × mSh × mMm × Nat × Nat) := (fb_X6_law_3 V (mS1 S n (15, 0)) (mM1 M n fun k => defaultValue (tyJ2 k)) (n + 1) (z + 3) x0 n)
theorem mn_X6_law_0 {r : Nat ⊕ Nat} {S' : mSh} {M' : mMm} {n' z' : Nat} : ∀ {S : mSh} {M : mMm} {n z : Nat} {x0 : Nat}, fb_X6_law_0 V S M n z x0 = some (r, S', M', n', z') → n ≤ n' ∧ z ≤ z' := by
  intro S M n z x0 hF
  unfold fb_X6_law_0 at hF
  have h9 := (mn_X6_law_3 (V := V)) hF
  exact ⟨by omega, by omega⟩
theorem b_X6_law_0 {r : Nat ⊕ Nat} {S' : mSh} {M' : mMm} {n' z' : Nat} {nS zS : Nat} (hV : mV V n0 P) (hVs : mVs V n0 P) (hs : l.stackTraces = false) (hVx : mVx n0 P) (X : mCx D n0 P p m c cX6_law 5 s args yX6_law.cls meth (some (.object "java/util/ArrayList"))) (hX : ∀ x ∈ c.exceptionTable.toList, False) : ∀ (S : mSh) (M : mMm) (n z : Nat) (x0 : Nat) (H : Heap) (locs : List Loc) (ls : Array Slot), nS ≤ n → zS ≤ z → mHp D n0 S M n s H locs → lv_has ls 5 [(0, .ref x0)] → fb_X6_law_0 V S M n z x0 = some (r, S', M', n', z') → W p l e (Rm_X6_law (n' - nS) (z' - zS)) s m args below meth c H locs (n - nS) (z - zS) (mMX below D n0 (moR r) S' M' n' args s (n' - nS) (z' - zS)) (F0 m 0 ls []) := by
  have hx := X.1.1
  have hb := X.1.2.1
  have hown := X.1.2.2.2.1
  have hts := X.1.2.2.2.2
  intro S M n z x0 H locs ls hn hz hp hl hF
  have hm0 := mn_X6_law_0 hF
  unfold fb_X6_law_0 at hF
  have hm := (mn_X6_law_3 (V := V)) hF
  refine m_new X hp kJ2 q583 q221 q138 (by show _ ≤ n' - nS; omega) (by show _ ≤ z' - zS; omega) dX6_law_0 (fun H hp => ?_)
  refine W.widen (k := n + 1 - nS) (n := z + 3 - zS) (by omega) (by omega) ?_
  exact b_X6_law_3 hV hVs hs hVx X hX _ _ _ _ _ _ _ _ _ (by omega) (by omega) hp (lv_sub hl [0] rfl) hF
def f_X6_law (V : Nat → Nat) (S : mSh) (M : mMm) (n z : Nat) (x0 : Nat) : Option ((Nat ⊕ Nat) × mSh × mMm × Nat × Nat) := (fb_X6_law_0 V S M n z x0)
theorem mn_X6_law {x0 : Nat} {r : Nat ⊕ Nat} {S' : mSh} {M' : mMm} {n' z' : Nat} {S : mSh} {M : mMm} {n z : Nat} (hF : f_X6_law V S M n z x0 = some (r, S', M', n', z')) : n ≤ n' ∧ z ≤ z' := by
  unfold f_X6_law at hF
  exact mn_X6_law_0 hF
theorem w_X6_law {x0 : Nat} {r : Nat ⊕ Nat} {S' : mSh} {M' : mMm} {n' z' : Nat} {S : mSh} {M : mMm} {n z : Nat} (hV : mV V n0 P) (hVs : mVs V n0 P) (hs : l.stackTraces = false) (hVx : mVx n0 P) (hF : f_X6_law V S M n z x0 = some (r, S', M', n', z')) : mXt l D n0 P yX6_law cX6_law 5 (some (.object "java/util/ArrayList")) 46 1036 (n' - n) (z' - z) [.ref x0] S M n (moR r) S' M' n' := by
  refine m_ofX (by decide) (Nat.le_of_ble_eq_true rfl) (fun p e s m below meth c X hX hp ls hl => ?_)
  unfold f_X6_law at hF
  refine W.widen (k := n - n) (n := z - z) (by omega) (by omega) ?_
  exact b_X6_law_0 hV hVs hs hVx X hX _ _ _ _ _ _ _ _ (Nat.le_refl _) (Nat.le_refl _) hp hl hF
end
section
variable {l : Launch} {D : va_G} {n0 : Nat} {P : mP} {V : Nat → Nat} {p : Program} {e : Env} {s : State} {m : MethodId} {args : Array Value} {below : List Frame} {meth : Method} {c : Code}
abbrev Rm_X6_stones (mc ms : Nat) : Room := { frames := 10, cells := mc, slots := ms, locals := 267 }
def fb_X6_stones_126 (V : Nat → Nat) (k4 : mSh → mMm → Nat → Nat → Nat → Option ((Nat ⊕ Nat) × mSh × mMm × Nat × Nat)) (S : mSh) (M : mMm) (n z : Nat) (x0 : Nat) (x1 : Int32) (x2 : Int32) (x3 : Int32) (x4 : Int32) (x5 : Int32) : Option ((Nat ⊕ Nat) × mSh × mMm × Nat × Nat) := gd ((S x0).1 = 7) (ob (f_X6_lays S M x0 x1 x2 x3 x4 x5) fun M84 => ob (rI S M84 x0 7 8) fun v85 => ob (wF S M84 x0 7 8 (.int (v85 + (1 : Int32)))) fun M87 => (k4 S M87 n z x0))
theorem mn_X6_stones_126 {r : Nat ⊕ Nat} {S' : mSh} {M' : mMm} {n' z' : Nat} (k4 : mSh → mMm → Nat → Nat → Nat → Option ((Nat ⊕ Nat) × mSh × mMm × Nat × Nat)) (hmk4 : ∀ {S : mSh} {M : mMm} {n z : Nat} {x0 : Nat}, k4 S M n z x0 = some (r, S', M', n', z') → n ≤ n' ∧ z ≤ z') : ∀ {S : mSh} {M : mMm} {n z : Nat} {x0 : Nat} {x1 : Int32} {x2 : Int32} {x3 : Int32} {x4 : Int32} {x5 : Int32}, fb_X6_stones_126 V k4 S M n z x0 x1 x2 x3 x4 x5 = some (r, S', M', n', z') → n ≤ n' ∧ z ≤ z' := by
  intro S M n z x0 x1 x2 x3 x4 x5 hF
  unfold fb_X6_stones_126 at hF
  obtain ⟨g81, hF⟩ := gd_s hF
  obtain ⟨M84, e82, hF⟩ := ob_s hF
  obtain ⟨v85, e86, hF⟩ := ob_s hF
  obtain ⟨M87, e88, hF⟩ := ob_s hF
  have h9 := hmk4 hF
  exact ⟨by omega, by omega⟩
theorem b_X6_stones_126 {r : Nat ⊕ Nat} {S' : mSh} {M' : mMm} {n' z' : Nat} {nS zS : Nat} (hV : mV V n0 P) (hVs : mVs V n0 P) (hs : l.stackTraces = false) (hVx : mVx n0 P) (X : mCx D n0 P p m c cX6_stones 6 s args yX6_stones.cls meth (some (.array (.int)))) (hX : ∀ x ∈ c.exceptionTable.toList, False) (k4 : mSh → mMm → Nat → Nat → Nat → Option ((Nat ⊕ Nat) × mSh × mMm × Nat × Nat)) (hmk4 : ∀ {S : mSh} {M : mMm} {n z : Nat} {x0 : Nat}, k4 S M n z x0 = some (r, S', M', n', z') → n ≤ n' ∧ z ≤ z') (hk4 : ∀ (S : mSh) (M : mMm) (n z : Nat) (x0 : Nat) (H : Heap) (locs : List Loc) (ls : Array Slot), nS ≤ n → zS ≤ z → mHp D n0 S M n s H locs → lv_has ls 6 [(0, .ref x0)] → k4 S M n z x0 = some (r, S', M', n', z') → W p l e (Rm_X6_stones (n' - nS) (z' - zS)) s m args below meth c H locs (n - nS) (z - zS) (mMX below D n0 (moR r) S' M' n' args s (n' - nS) (z' - zS)) (F0 m 4 ls [])) : ∀ (S : mSh) (M : mMm) (n z : Nat) (x0 : Nat) (x1 : Int32) (x2 : Int32) (x3 : Int32) (x4 : Int32) (x5 : Int32) (H : Heap) (locs : List Loc) (ls : Array Slot), nS ≤ n → zS ≤ z → mHp D n0 S M n s H locs → lv_has ls 6 [(0, .ref x0), (1, .int x1), (2, .int x2), (3, .int x3), (4, .int x4), (5, .int x5)] → fb_X6_stones_126 V k4 S M n z x0 x1 x2 x3 x4 x5 = some (r, S', M', n', z') → W p l e (Rm_X6_stones (n' - nS) (z' - zS)) s m args below meth c H locs (n - nS) (z - zS) (mMX below D n0 (moR r) S' M' n' args s (n' - nS) (z' - zS)) (F0 m 126 ls []) := by
  have hx := X.1.1
  have hb := X.1.2.1
  have hown := X.1.2.2.2.1
  have hts := X.1.2.2.2.2
  intro S M n z x0 x1 x2 x3 x4 x5 H locs ls hn hz hp hl hF
  have hm0 := mn_X6_stones_126 _ hmk4 hF
  unfold fb_X6_stones_126 at hF
  refine lv_aload_n hx hb dX6_stones_126 rfl (lv_at hl 0 rfl) ?_
  refine lv_iload_n hx hb dX6_stones_127 rfl (lv_at hl 1 rfl) ?_
  refine lv_iload_n hx hb dX6_stones_128 rfl (lv_at hl 2 rfl) ?_
  refine lv_iload_n hx hb dX6_stones_129 rfl (lv_at hl 3 rfl) ?_
  refine lv_iload hx hb dX6_stones_130 (lv_at hl 4 rfl) ?_
  refine lv_iload hx hb dX6_stones_132 (lv_at hl 5 rfl) ?_
  obtain ⟨g81, hF⟩ := gd_s hF
  obtain ⟨M84, e82, hF⟩ := ob_s hF
  refine m_callV (As := [.int x1, .int x2, .int x3, .int x4, .int x5]) (rest := []) X hp (w_X6_lays e82) q921 q923 qs26 q148 q924 5 rfl ds_X6_lays ⟨Nat.le_of_ble_eq_true rfl, Nat.le_of_ble_eq_true rfl⟩ 7 (T := TX6) (N := 10) rfl (by decide) g81 hl.1 rfl (Nat.le_of_ble_eq_true rfl) dX6_stones_134 ⟨by show _ + 0 ≤ n' - nS; omega, by show _ + 0 ≤ z' - zS; omega⟩ (fun H locs hp => ?_)
  refine lv_aload_n hx hb dX6_stones_137 rfl (lv_at hl 0 rfl) ?_
  refine lv_dup hx hb dX6_stones_138 rfl ?_
  obtain ⟨v85, e86, hF⟩ := ob_s hF
  refine m_getI X hp e86 kX6 (Nat.le_of_ble_eq_true rfl) q594 dX6_stones_139 ?_
  refine lv_iconst (v := 1) hx hb dX6_stones_142 (by decide) ?_
  refine lv_iadd hx hb dX6_stones_143 ?_
  obtain ⟨M87, e88, hF⟩ := ob_s hF
  refine m_putW X hp e88 kX6 (Nat.le_of_ble_eq_true rfl) q594 rfl rfl rfl dX6_stones_144 (fun H locs hp => ?_)
  refine lv_goto (tgt := 4) hx hb dX6_stones_147 (by decide) ?_
  exact hk4 _ _ _ _ _ _ _ _ (by omega) (by omega) hp (lv_sub hl [0] rfl) hF
def fb_X6_stones_120 (V : Nat → Nat) (k4 : mSh → mMm → Nat → Nat → Nat → Option ((Nat ⊕ Nat) × mSh × mMm × Nat × Nat)) (S : mSh) (M : mMm) (n z : Nat) (x0 : Nat) (x1 : Int32) (x2 : Int32) (x3 : Int32) (x4 : Int32) (x5 : Int32) : Option ((Nat ⊕ Nat) × mSh × mMm × Nat × Nat) := gd ((S x0).1 = 7) (ob (f_X6_must V S M n z x0 (59 : Int32)) fun ⟨o78, S75, M74, n76, z77⟩ => xk o78 S75 M74 n76 z77 fun _ => (fb_X6_stones_126 V k4 S75 M74 n76 z77 x0 x1 x2 x3 x4 x5))
theorem mn_X6_stones_120 {r : Nat ⊕ Nat} {S' : mSh} {M' : mMm} {n' z' : Nat} (k4 : mSh → mMm → Nat → Nat → Nat → Option ((Nat ⊕ Nat) × mSh × mMm × Nat × Nat)) (hmk4 : ∀ {S : mSh} {M : mMm} {n z : Nat} {x0 : Nat}, k4 S M n z x0 = some (r, S', M', n', z') → n ≤ n' ∧ z ≤ z') : ∀ {S : mSh} {M : mMm} {n z : Nat} {x0 : Nat} {x1 : Int32} {x2 : Int32} {x3 : Int32} {x4 : Int32} {x5 : Int32}, fb_X6_stones_120 V k4 S M n z x0 x1 x2 x3 x4 x5 = some (r, S', M', n', z') → n ≤ n' ∧ z ≤ z' := by
  intro S M n z x0 x1 x2 x3 x4 x5 hF
  unfold fb_X6_stones_120 at hF
  obtain ⟨g71, hF⟩ := gd_s hF
  obtain ⟨⟨o78, S75, M74, n76, z77⟩, e72, hF⟩ := ob_s hF
  have hc := mn_X6_must e72
  rcases xk_s hF with ⟨v73, h79, hF⟩ | ⟨q80, h79, hF⟩
  · subst h79
    have h9 := (mn_X6_stones_126 (V := V) k4 hmk4) hF
    exact ⟨by omega, by omega⟩
  · subst h79
    cases hF
    exact ⟨by omega, by omega⟩
theorem b_X6_stones_120 {r : Nat ⊕ Nat} {S' : mSh} {M' : mMm} {n' z' : Nat} {nS zS : Nat} (hV : mV V n0 P) (hVs : mVs V n0 P) (hs : l.stackTraces = false) (hVx : mVx n0 P) (X : mCx D n0 P p m c cX6_stones 6 s args yX6_stones.cls meth (some (.array (.int)))) (hX : ∀ x ∈ c.exceptionTable.toList, False) (k4 : mSh → mMm → Nat → Nat → Nat → Option ((Nat ⊕ Nat) × mSh × mMm × Nat × Nat)) (hmk4 : ∀ {S : mSh} {M : mMm} {n z : Nat} {x0 : Nat}, k4 S M n z x0 = some (r, S', M', n', z') → n ≤ n' ∧ z ≤ z') (hk4 : ∀ (S : mSh) (M : mMm) (n z : Nat) (x0 : Nat) (H : Heap) (locs : List Loc) (ls : Array Slot), nS ≤ n → zS ≤ z → mHp D n0 S M n s H locs → lv_has ls 6 [(0, .ref x0)] → k4 S M n z x0 = some (r, S', M', n', z') → W p l e (Rm_X6_stones (n' - nS) (z' - zS)) s m args below meth c H locs (n - nS) (z - zS) (mMX below D n0 (moR r) S' M' n' args s (n' - nS) (z' - zS)) (F0 m 4 ls [])) : ∀ (S : mSh) (M : mMm) (n z : Nat) (x0 : Nat) (x1 : Int32) (x2 : Int32) (x3 : Int32) (x4 : Int32) (x5 : Int32) (H : Heap) (locs : List Loc) (ls : Array Slot), nS ≤ n → zS ≤ z → mHp D n0 S M n s H locs → lv_has ls 6 [(0, .ref x0), (1, .int x1), (2, .int x2), (3, .int x3), (4, .int x4), (5, .int x5)] → fb_X6_stones_120 V k4 S M n z x0 x1 x2 x3 x4 x5 = some (r, S', M', n', z') → W p l e (Rm_X6_stones (n' - nS) (z' - zS)) s m args below meth c H locs (n - nS) (z - zS) (mMX below D n0 (moR r) S' M' n' args s (n' - nS) (z' - zS)) (F0 m 120 ls []) := by
  have hx := X.1.1
  have hb := X.1.2.1
  have hown := X.1.2.2.2.1
  have hts := X.1.2.2.2.2
  intro S M n z x0 x1 x2 x3 x4 x5 H locs ls hn hz hp hl hF
  have hm0 := mn_X6_stones_120 _ hmk4 hF
  unfold fb_X6_stones_120 at hF
  refine lv_aload_n hx hb dX6_stones_120 rfl (lv_at hl 0 rfl) ?_
  refine lv_bipush (v := 59) hx hb dX6_stones_121 (by decide) ?_
  obtain ⟨g71, hF⟩ := gd_s hF
  obtain ⟨⟨o78, S75, M74, n76, z77⟩, e72, hF⟩ := ob_s hF
  have hc := mn_X6_must e72
  rcases xk_s hF with ⟨v73, h79, hF⟩ | ⟨q80, h79, hF⟩
  · subst h79
    have hm := (mn_X6_stones_126 (V := V) k4 hmk4) hF
    refine xm_callV (As := [.int (59 : Int32)]) (rest := []) X hp (w_X6_must hV hVs hs hVx e72) q892 q894 qs25 q148 q895 1 rfl ds_X6_must ⟨Nat.le_of_ble_eq_true rfl, Nat.le_of_ble_eq_true rfl⟩ 7 (T := TX6) (N := 10) rfl (by decide) g71 hl.1 rfl (Nat.le_of_ble_eq_true rfl) dX6_stones_123 ⟨by show _ ≤ n' - nS; omega, by show _ ≤ z' - zS; omega⟩ (fun H locs hp => ?_)
    refine W.widen (k := n76 - nS) (n := z77 - zS) (by omega) (by omega) ?_
    exact b_X6_stones_126 hV hVs hs hVx X hX k4 hmk4 hk4 _ _ _ _ _ _ _ _ _ _ _ _ _ (by omega) (by omega) hp (lv_sub hl [0, 1, 2, 3, 4, 5] rfl) hF
  · subst h79
    cases hF
    exact xm_callVT (As := [.int (59 : Int32)]) (rest := []) X hX hp (w_X6_must hV hVs hs hVx e72) q892 q894 qs25 q148 q895 1 rfl ds_X6_must ⟨Nat.le_of_ble_eq_true rfl, Nat.le_of_ble_eq_true rfl⟩ 7 (T := TX6) (N := 10) rfl (by decide) g71 hl.1 rfl (Nat.le_of_ble_eq_true rfl) dX6_stones_123 ⟨by show _ ≤ n' - nS; omega, by show _ ≤ z' - zS; omega⟩ ⟨by omega, by omega⟩
def fb_X6_stones_118 (V : Nat → Nat) (k4 : mSh → mMm → Nat → Nat → Nat → Option ((Nat ⊕ Nat) × mSh × mMm × Nat × Nat)) (S : mSh) (M : mMm) (n z : Nat) (x0 : Nat) (x1 : Int32) (x2 : Int32) (x3 : Int32) (x4 : Int32) (y0 : Int32) : Option ((Nat ⊕ Nat) × mSh × mMm × Nat × Nat) := (fb_X6_stones_120 V k4 S M n z x0 x1 x2 x3 x4 y0)
theorem mn_X6_stones_118 {r : Nat ⊕ Nat} {S' : mSh} {M' : mMm} {n' z' : Nat} (k4 : mSh → mMm → Nat → Nat → Nat → Option ((Nat ⊕ Nat) × mSh × mMm × Nat × Nat)) (hmk4 : ∀ {S : mSh} {M : mMm} {n z : Nat} {x0 : Nat}, k4 S M n z x0 = some (r, S', M', n', z') → n ≤ n' ∧ z ≤ z') : ∀ {S : mSh} {M : mMm} {n z : Nat} {x0 : Nat} {x1 : Int32} {x2 : Int32} {x3 : Int32} {x4 : Int32} {y0 : Int32}, fb_X6_stones_118 V k4 S M n z x0 x1 x2 x3 x4 y0 = some (r, S', M', n', z') → n ≤ n' ∧ z ≤ z' := by
  intro S M n z x0 x1 x2 x3 x4 y0 hF
  unfold fb_X6_stones_118 at hF
  have h9 := (mn_X6_stones_120 (V := V) k4 hmk4) hF
  exact ⟨by omega, by omega⟩
theorem b_X6_stones_118 {r : Nat ⊕ Nat} {S' : mSh} {M' : mMm} {n' z' : Nat} {nS zS : Nat} (hV : mV V n0 P) (hVs : mVs V n0 P) (hs : l.stackTraces = false) (hVx : mVx n0 P) (X : mCx D n0 P p m c cX6_stones 6 s args yX6_stones.cls meth (some (.array (.int)))) (hX : ∀ x ∈ c.exceptionTable.toList, False) (k4 : mSh → mMm → Nat → Nat → Nat → Option ((Nat ⊕ Nat) × mSh × mMm × Nat × Nat)) (hmk4 : ∀ {S : mSh} {M : mMm} {n z : Nat} {x0 : Nat}, k4 S M n z x0 = some (r, S', M', n', z') → n ≤ n' ∧ z ≤ z') (hk4 : ∀ (S : mSh) (M : mMm) (n z : Nat) (x0 : Nat) (H : Heap) (locs : List Loc) (ls : Array Slot), nS ≤ n → zS ≤ z → mHp D n0 S M n s H locs → lv_has ls 6 [(0, .ref x0)] → k4 S M n z x0 = some (r, S', M', n', z') → W p l e (Rm_X6_stones (n' - nS) (z' - zS)) s m args below meth c H locs (n - nS) (z - zS) (mMX below D n0 (moR r) S' M' n' args s (n' - nS) (z' - zS)) (F0 m 4 ls [])) : ∀ (S : mSh) (M : mMm) (n z : Nat) (x0 : Nat) (x1 : Int32) (x2 : Int32) (x3 : Int32) (x4 : Int32) (y0 : Int32) (H : Heap) (locs : List Loc) (ls : Array Slot), nS ≤ n → zS ≤ z → mHp D n0 S M n s H locs → lv_has ls 6 [(0, .ref x0), (1, .int x1), (2, .int x2), (3, .int x3), (4, .int x4)] → fb_X6_stones_118 V k4 S M n z x0 x1 x2 x3 x4 y0 = some (r, S', M', n', z') → W p l e (Rm_X6_stones (n' - nS) (z' - zS)) s m args below meth c H locs (n - nS) (z - zS) (mMX below D n0 (moR r) S' M' n' args s (n' - nS) (z' - zS)) (F0 m 118 ls [.int y0]) := by
  have hx := X.1.1
  have hb := X.1.2.1
  have hown := X.1.2.2.2.1
  have hts := X.1.2.2.2.2
  intro S M n z x0 x1 x2 x3 x4 y0 H locs ls hn hz hp hl hF
  have hm0 := mn_X6_stones_118 _ hmk4 hF
  unfold fb_X6_stones_118 at hF
  refine lv_istore (lv' := [(5, .int y0), (0, .ref x0), (1, .int x1), (2, .int x2), (3, .int x3), (4, .int x4)]) hx hb dX6_stones_118 hl (by decide) rfl (fun ls hl => ?_)
  exact b_X6_stones_120 hV hVs hs hVx X hX k4 hmk4 hk4 _ _ _ _ _ _ _ _ _ _ _ _ _ (by omega) (by omega) hp (lv_sub hl [1, 2, 3, 4, 5, 0] rfl) hF
def fb_X6_stones_109 (V : Nat → Nat) (k4 : mSh → mMm → Nat → Nat → Nat → Option ((Nat ⊕ Nat) × mSh × mMm × Nat × Nat)) (S : mSh) (M : mMm) (n z : Nat) (x0 : Nat) (x1 : Int32) (x2 : Int32) (x3 : Int32) (y0 : Int32) : Option ((Nat ⊕ Nat) × mSh × mMm × Nat × Nat) := gd ((S x0).1 = 7) (ob (f_X6_number V S M n z x0 (0 : Int32) (11 : Int32)) fun ⟨o68, S65, M64, n66, z67⟩ => xk o68 S65 M64 n66 z67 fun v63 => (fb_X6_stones_118 V k4 S65 M64 n66 z67 x0 x1 x2 x3 y0 v63))
theorem mn_X6_stones_109 {r : Nat ⊕ Nat} {S' : mSh} {M' : mMm} {n' z' : Nat} (k4 : mSh → mMm → Nat → Nat → Nat → Option ((Nat ⊕ Nat) × mSh × mMm × Nat × Nat)) (hmk4 : ∀ {S : mSh} {M : mMm} {n z : Nat} {x0 : Nat}, k4 S M n z x0 = some (r, S', M', n', z') → n ≤ n' ∧ z ≤ z') : ∀ {S : mSh} {M : mMm} {n z : Nat} {x0 : Nat} {x1 : Int32} {x2 : Int32} {x3 : Int32} {y0 : Int32}, fb_X6_stones_109 V k4 S M n z x0 x1 x2 x3 y0 = some (r, S', M', n', z') → n ≤ n' ∧ z ≤ z' := by
  intro S M n z x0 x1 x2 x3 y0 hF
  unfold fb_X6_stones_109 at hF
  obtain ⟨g61, hF⟩ := gd_s hF
  obtain ⟨⟨o68, S65, M64, n66, z67⟩, e62, hF⟩ := ob_s hF
  have hc := mn_X6_number e62
  rcases xk_s hF with ⟨v63, h69, hF⟩ | ⟨q70, h69, hF⟩
  · subst h69
    have h9 := (mn_X6_stones_118 (V := V) k4 hmk4) hF
    exact ⟨by omega, by omega⟩
  · subst h69
    cases hF
    exact ⟨by omega, by omega⟩
theorem b_X6_stones_109 {r : Nat ⊕ Nat} {S' : mSh} {M' : mMm} {n' z' : Nat} {nS zS : Nat} (hV : mV V n0 P) (hVs : mVs V n0 P) (hs : l.stackTraces = false) (hVx : mVx n0 P) (X : mCx D n0 P p m c cX6_stones 6 s args yX6_stones.cls meth (some (.array (.int)))) (hX : ∀ x ∈ c.exceptionTable.toList, False) (k4 : mSh → mMm → Nat → Nat → Nat → Option ((Nat ⊕ Nat) × mSh × mMm × Nat × Nat)) (hmk4 : ∀ {S : mSh} {M : mMm} {n z : Nat} {x0 : Nat}, k4 S M n z x0 = some (r, S', M', n', z') → n ≤ n' ∧ z ≤ z') (hk4 : ∀ (S : mSh) (M : mMm) (n z : Nat) (x0 : Nat) (H : Heap) (locs : List Loc) (ls : Array Slot), nS ≤ n → zS ≤ z → mHp D n0 S M n s H locs → lv_has ls 6 [(0, .ref x0)] → k4 S M n z x0 = some (r, S', M', n', z') → W p l e (Rm_X6_stones (n' - nS) (z' - zS)) s m args below meth c H locs (n - nS) (z - zS) (mMX below D n0 (moR r) S' M' n' args s (n' - nS) (z' - zS)) (F0 m 4 ls [])) : ∀ (S : mSh) (M : mMm) (n z : Nat) (x0 : Nat) (x1 : Int32) (x2 : Int32) (x3 : Int32) (y0 : Int32) (H : Heap) (locs : List Loc) (ls : Array Slot), nS ≤ n → zS ≤ z → mHp D n0 S M n s H locs → lv_has ls 6 [(0, .ref x0), (1, .int x1), (2, .int x2), (3, .int x3)] → fb_X6_stones_109 V k4 S M n z x0 x1 x2 x3 y0 = some (r, S', M', n', z') → W p l e (Rm_X6_stones (n' - nS) (z' - zS)) s m args below meth c H locs (n - nS) (z - zS) (mMX below D n0 (moR r) S' M' n' args s (n' - nS) (z' - zS)) (F0 m 109 ls [.int y0]) := by
  have hx := X.1.1
  have hb := X.1.2.1
  have hown := X.1.2.2.2.1
  have hts := X.1.2.2.2.2
  intro S M n z x0 x1 x2 x3 y0 H locs ls hn hz hp hl hF
  have hm0 := mn_X6_stones_109 _ hmk4 hF
  unfold fb_X6_stones_109 at hF
  refine lv_istore (lv' := [(4, .int y0), (0, .ref x0), (1, .int x1), (2, .int x2), (3, .int x3)]) hx hb dX6_stones_109 hl (by decide) rfl (fun ls hl => ?_)
  refine lv_aload_n hx hb dX6_stones_111 rfl (lv_at hl 1 rfl) ?_
  refine lv_iconst (v := 0) hx hb dX6_stones_112 (by decide) ?_
  refine lv_bipush (v := 11) hx hb dX6_stones_113 (by decide) ?_
  obtain ⟨g61, hF⟩ := gd_s hF
  obtain ⟨⟨o68, S65, M64, n66, z67⟩, e62, hF⟩ := ob_s hF
  have hc := mn_X6_number e62
  rcases xk_s hF with ⟨v63, h69, hF⟩ | ⟨q70, h69, hF⟩
  · subst h69
    have hm := (mn_X6_stones_118 (V := V) k4 hmk4) hF
    refine xm_callV (As := [.int (0 : Int32), .int (11 : Int32)]) (rest := []) X hp (w_X6_number hV hVs hs hVx e62) q825 q827 qs20 q148 q828 2 rfl ds_X6_number ⟨Nat.le_of_ble_eq_true rfl, Nat.le_of_ble_eq_true rfl⟩ 7 (T := TX6) (N := 10) rfl (by decide) g61 hl.1 rfl (Nat.le_of_ble_eq_true rfl) dX6_stones_115 ⟨by show _ ≤ n' - nS; omega, by show _ ≤ z' - zS; omega⟩ (fun H locs hp => ?_)
    refine W.widen (k := n66 - nS) (n := z67 - zS) (by omega) (by omega) ?_
    exact b_X6_stones_118 hV hVs hs hVx X hX k4 hmk4 hk4 _ _ _ _ _ _ _ _ _ _ _ _ _ (by omega) (by omega) hp (lv_sub hl [1, 2, 3, 4, 0] rfl) hF
  · subst h69
    cases hF
    exact xm_callVT (As := [.int (0 : Int32), .int (11 : Int32)]) (rest := []) X hX hp (w_X6_number hV hVs hs hVx e62) q825 q827 qs20 q148 q828 2 rfl ds_X6_number ⟨Nat.le_of_ble_eq_true rfl, Nat.le_of_ble_eq_true rfl⟩ 7 (T := TX6) (N := 10) rfl (by decide) g61 hl.1 rfl (Nat.le_of_ble_eq_true rfl) dX6_stones_115 ⟨by show _ ≤ n' - nS; omega, by show _ ≤ z' - zS; omega⟩ ⟨by omega, by omega⟩
def fb_X6_stones_82 (V : Nat → Nat) (k4 : mSh → mMm → Nat → Nat → Nat → Option ((Nat ⊕ Nat) × mSh × mMm × Nat × Nat)) (S : mSh) (M : mMm) (n z : Nat) (x0 : Nat) (x1 : Int32) (x2 : Int32) (y0 : Int32) : Option ((Nat ⊕ Nat) × mSh × mMm × Nat × Nat) := ob (rI S M x0 7 5) fun v46 => (if v46 = (14 : Int32) then ob (f_X6_next V S M x0) fun M51 => ob (f_X6_number V S M51 n z x0 (0 : Int32) (11 : Int32)) fun ⟨o58, S55, M54, n56, z57⟩ => xk o58 S55 M54 n56 z57 fun v53 => (fb_X6_stones_109 V k4 S55 M54 n56 z57 x0 x1 x2 y0 v53) else (fb_X6_stones_120 V k4 S M n z x0 x1 x2 y0 x2 y0))
theorem mn_X6_stones_82 {r : Nat ⊕ Nat} {S' : mSh} {M' : mMm} {n' z' : Nat} (k4 : mSh → mMm → Nat → Nat → Nat → Option ((Nat ⊕ Nat) × mSh × mMm × Nat × Nat)) (hmk4 : ∀ {S : mSh} {M : mMm} {n z : Nat} {x0 : Nat}, k4 S M n z x0 = some (r, S', M', n', z') → n ≤ n' ∧ z ≤ z') : ∀ {S : mSh} {M : mMm} {n z : Nat} {x0 : Nat} {x1 : Int32} {x2 : Int32} {y0 : Int32}, fb_X6_stones_82 V k4 S M n z x0 x1 x2 y0 = some (r, S', M', n', z') → n ≤ n' ∧ z ≤ z' := by
  intro S M n z x0 x1 x2 y0 hF
  unfold fb_X6_stones_82 at hF
  obtain ⟨v46, e47, hF⟩ := ob_s hF
  rcases (Decidable.em (v46 = (14 : Int32))).symm with c48 | c48
  · have hF := if_n c48 hF
    have h9 := (mn_X6_stones_120 (V := V) k4 hmk4) hF
    exact ⟨by omega, by omega⟩
  · have hF := if_p c48 hF
    obtain ⟨M51, e49, hF⟩ := ob_s hF
    obtain ⟨⟨o58, S55, M54, n56, z57⟩, e52, hF⟩ := ob_s hF
    have hc := mn_X6_number e52
    rcases xk_s hF with ⟨v53, h59, hF⟩ | ⟨q60, h59, hF⟩
    · subst h59
      have h9 := (mn_X6_stones_109 (V := V) k4 hmk4) hF
      exact ⟨by omega, by omega⟩
    · subst h59
      cases hF
      exact ⟨by omega, by omega⟩
theorem b_X6_stones_82 {r : Nat ⊕ Nat} {S' : mSh} {M' : mMm} {n' z' : Nat} {nS zS : Nat} (hV : mV V n0 P) (hVs : mVs V n0 P) (hs : l.stackTraces = false) (hVx : mVx n0 P) (X : mCx D n0 P p m c cX6_stones 6 s args yX6_stones.cls meth (some (.array (.int)))) (hX : ∀ x ∈ c.exceptionTable.toList, False) (k4 : mSh → mMm → Nat → Nat → Nat → Option ((Nat ⊕ Nat) × mSh × mMm × Nat × Nat)) (hmk4 : ∀ {S : mSh} {M : mMm} {n z : Nat} {x0 : Nat}, k4 S M n z x0 = some (r, S', M', n', z') → n ≤ n' ∧ z ≤ z') (hk4 : ∀ (S : mSh) (M : mMm) (n z : Nat) (x0 : Nat) (H : Heap) (locs : List Loc) (ls : Array Slot), nS ≤ n → zS ≤ z → mHp D n0 S M n s H locs → lv_has ls 6 [(0, .ref x0)] → k4 S M n z x0 = some (r, S', M', n', z') → W p l e (Rm_X6_stones (n' - nS) (z' - zS)) s m args below meth c H locs (n - nS) (z - zS) (mMX below D n0 (moR r) S' M' n' args s (n' - nS) (z' - zS)) (F0 m 4 ls [])) : ∀ (S : mSh) (M : mMm) (n z : Nat) (x0 : Nat) (x1 : Int32) (x2 : Int32) (y0 : Int32) (H : Heap) (locs : List Loc) (ls : Array Slot), nS ≤ n → zS ≤ z → mHp D n0 S M n s H locs → lv_has ls 6 [(0, .ref x0), (1, .int x1), (2, .int x2)] → fb_X6_stones_82 V k4 S M n z x0 x1 x2 y0 = some (r, S', M', n', z') → W p l e (Rm_X6_stones (n' - nS) (z' - zS)) s m args below meth c H locs (n - nS) (z - zS) (mMX below D n0 (moR r) S' M' n' args s (n' - nS) (z' - zS)) (F0 m 82 ls [.int y0]) := by
  have hx := X.1.1
  have hb := X.1.2.1
  have hown := X.1.2.2.2.1
  have hts := X.1.2.2.2.2
  intro S M n z x0 x1 x2 y0 H locs ls hn hz hp hl hF
  have hm0 := mn_X6_stones_82 _ hmk4 hF
  unfold fb_X6_stones_82 at hF
  refine lv_istore_n (lv' := [(3, .int y0), (0, .ref x0), (1, .int x1), (2, .int x2)]) hx hb dX6_stones_82 rfl hl (by decide) rfl (fun ls hl => ?_)
  refine lv_iload_n hx hb dX6_stones_83 rfl (lv_at hl 3 rfl) ?_
  refine lv_istore (lv' := [(4, .int x2), (3, .int y0), (0, .ref x0), (1, .int x1), (2, .int x2)]) hx hb dX6_stones_84 hl (by decide) rfl (fun ls hl => ?_)
  refine lv_iload_n hx hb dX6_stones_86 rfl (lv_at hl 1 rfl) ?_
  refine lv_istore (lv' := [(5, .int y0), (4, .int x2), (3, .int y0), (0, .ref x0), (1, .int x1), (2, .int x2)]) hx hb dX6_stones_87 hl (by decide) rfl (fun ls hl => ?_)
  refine lv_aload_n hx hb dX6_stones_89 rfl (lv_at hl 3 rfl) ?_
  obtain ⟨v46, e47, hF⟩ := ob_s hF
  refine m_getI X hp e47 kX6 (Nat.le_of_ble_eq_true rfl) q590 dX6_stones_90 ?_
  refine lv_bipush (v := 14) hx hb dX6_stones_93 (by decide) ?_
  refine lv_icmp_ne (tgt := 120) hx hb dX6_stones_95 (by decide) (fun c48 => ?_) (fun c48 => ?_)
  · have hF := if_n c48 hF
    exact b_X6_stones_120 hV hVs hs hVx X hX k4 hmk4 hk4 _ _ _ _ _ _ _ _ _ _ _ _ _ (by omega) (by omega) hp (lv_sub hl [3, 4, 5, 2, 1, 0] rfl) hF
  · have hF := if_p c48 hF
    refine lv_aload_n hx hb dX6_stones_98 rfl (lv_at hl 3 rfl) ?_
    obtain ⟨M51, e49, hF⟩ := ob_s hF
    refine m_callV (As := []) (rest := []) X hp (w_X6_next hVs e49) q621 q623 qs5 q148 q624 0 rfl ds_X6_next ⟨Nat.le_of_ble_eq_true rfl, Nat.le_of_ble_eq_true rfl⟩ 7 (T := TX6) (N := 10) rfl (by decide) (rI_s e47).1 hl.1 rfl (Nat.le_of_ble_eq_true rfl) dX6_stones_99 ⟨by show _ + 0 ≤ n' - nS; omega, by show _ + 0 ≤ z' - zS; omega⟩ (fun H locs hp => ?_)
    refine lv_aload_n hx hb dX6_stones_102 rfl (lv_at hl 3 rfl) ?_
    refine lv_iconst (v := 0) hx hb dX6_stones_103 (by decide) ?_
    refine lv_bipush (v := 11) hx hb dX6_stones_104 (by decide) ?_
    obtain ⟨⟨o58, S55, M54, n56, z57⟩, e52, hF⟩ := ob_s hF
    have hc := mn_X6_number e52
    rcases xk_s hF with ⟨v53, h59, hF⟩ | ⟨q60, h59, hF⟩
    · subst h59
      have hm := (mn_X6_stones_109 (V := V) k4 hmk4) hF
      refine xm_callV (As := [.int (0 : Int32), .int (11 : Int32)]) (rest := []) X hp (w_X6_number hV hVs hs hVx e52) q825 q827 qs20 q148 q828 2 rfl ds_X6_number ⟨Nat.le_of_ble_eq_true rfl, Nat.le_of_ble_eq_true rfl⟩ 7 (T := TX6) (N := 10) rfl (by decide) (rI_s e47).1 hl.1 rfl (Nat.le_of_ble_eq_true rfl) dX6_stones_106 ⟨by show _ ≤ n' - nS; omega, by show _ ≤ z' - zS; omega⟩ (fun H locs hp => ?_)
      refine W.widen (k := n56 - nS) (n := z57 - zS) (by omega) (by omega) ?_
      exact b_X6_stones_109 hV hVs hs hVx X hX k4 hmk4 hk4 _ _ _ _ _ _ _ _ _ _ _ _ (by omega) (by omega) hp (lv_sub hl [3, 4, 5, 2] rfl) hF
    · subst h59
      cases hF
      exact xm_callVT (As := [.int (0 : Int32), .int (11 : Int32)]) (rest := []) X hX hp (w_X6_number hV hVs hs hVx e52) q825 q827 qs20 q148 q828 2 rfl ds_X6_number ⟨Nat.le_of_ble_eq_true rfl, Nat.le_of_ble_eq_true rfl⟩ 7 (T := TX6) (N := 10) rfl (by decide) (rI_s e47).1 hl.1 rfl (Nat.le_of_ble_eq_true rfl) dX6_stones_106 ⟨by show _ ≤ n' - nS; omega, by show _ ≤ z' - zS; omega⟩ ⟨by omega, by omega⟩
def fb_X6_stones_74 (V : Nat → Nat) (k4 : mSh → mMm → Nat → Nat → Nat → Option ((Nat ⊕ Nat) × mSh × mMm × Nat × Nat)) (S : mSh) (M : mMm) (n z : Nat) (x0 : Nat) (x1 : Int32) (y0 : Int32) : Option ((Nat ⊕ Nat) × mSh × mMm × Nat × Nat) := gd ((S x0).1 = 7) (ob (f_X6_number V S M n z x0 (0 : Int32) (11 : Int32)) fun ⟨o43, S40, M39, n41, z42⟩ => xk o43 S40 M39 n41 z42 fun v38 => (fb_X6_stones_82 V k4 S40 M39 n41 z42 x0 x1 y0 v38))
theorem mn_X6_stones_74 {r : Nat ⊕ Nat} {S' : mSh} {M' : mMm} {n' z' : Nat} (k4 : mSh → mMm → Nat → Nat → Nat → Option ((Nat ⊕ Nat) × mSh × mMm × Nat × Nat)) (hmk4 : ∀ {S : mSh} {M : mMm} {n z : Nat} {x0 : Nat}, k4 S M n z x0 = some (r, S', M', n', z') → n ≤ n' ∧ z ≤ z') : ∀ {S : mSh} {M : mMm} {n z : Nat} {x0 : Nat} {x1 : Int32} {y0 : Int32}, fb_X6_stones_74 V k4 S M n z x0 x1 y0 = some (r, S', M', n', z') → n ≤ n' ∧ z ≤ z' := by
  intro S M n z x0 x1 y0 hF
  unfold fb_X6_stones_74 at hF
  obtain ⟨g36, hF⟩ := gd_s hF
  obtain ⟨⟨o43, S40, M39, n41, z42⟩, e37, hF⟩ := ob_s hF
  have hc := mn_X6_number e37
  rcases xk_s hF with ⟨v38, h44, hF⟩ | ⟨q45, h44, hF⟩
  · subst h44
    have h9 := (mn_X6_stones_82 (V := V) k4 hmk4) hF
    exact ⟨by omega, by omega⟩
  · subst h44
    cases hF
    exact ⟨by omega, by omega⟩
theorem b_X6_stones_74 {r : Nat ⊕ Nat} {S' : mSh} {M' : mMm} {n' z' : Nat} {nS zS : Nat} (hV : mV V n0 P) (hVs : mVs V n0 P) (hs : l.stackTraces = false) (hVx : mVx n0 P) (X : mCx D n0 P p m c cX6_stones 6 s args yX6_stones.cls meth (some (.array (.int)))) (hX : ∀ x ∈ c.exceptionTable.toList, False) (k4 : mSh → mMm → Nat → Nat → Nat → Option ((Nat ⊕ Nat) × mSh × mMm × Nat × Nat)) (hmk4 : ∀ {S : mSh} {M : mMm} {n z : Nat} {x0 : Nat}, k4 S M n z x0 = some (r, S', M', n', z') → n ≤ n' ∧ z ≤ z') (hk4 : ∀ (S : mSh) (M : mMm) (n z : Nat) (x0 : Nat) (H : Heap) (locs : List Loc) (ls : Array Slot), nS ≤ n → zS ≤ z → mHp D n0 S M n s H locs → lv_has ls 6 [(0, .ref x0)] → k4 S M n z x0 = some (r, S', M', n', z') → W p l e (Rm_X6_stones (n' - nS) (z' - zS)) s m args below meth c H locs (n - nS) (z - zS) (mMX below D n0 (moR r) S' M' n' args s (n' - nS) (z' - zS)) (F0 m 4 ls [])) : ∀ (S : mSh) (M : mMm) (n z : Nat) (x0 : Nat) (x1 : Int32) (y0 : Int32) (H : Heap) (locs : List Loc) (ls : Array Slot), nS ≤ n → zS ≤ z → mHp D n0 S M n s H locs → lv_has ls 6 [(0, .ref x0), (1, .int x1)] → fb_X6_stones_74 V k4 S M n z x0 x1 y0 = some (r, S', M', n', z') → W p l e (Rm_X6_stones (n' - nS) (z' - zS)) s m args below meth c H locs (n - nS) (z - zS) (mMX below D n0 (moR r) S' M' n' args s (n' - nS) (z' - zS)) (F0 m 74 ls [.int y0]) := by
  have hx := X.1.1
  have hb := X.1.2.1
  have hown := X.1.2.2.2.1
  have hts := X.1.2.2.2.2
  intro S M n z x0 x1 y0 H locs ls hn hz hp hl hF
  have hm0 := mn_X6_stones_74 _ hmk4 hF
  unfold fb_X6_stones_74 at hF
  refine lv_istore_n (lv' := [(2, .int y0), (0, .ref x0), (1, .int x1)]) hx hb dX6_stones_74 rfl hl (by decide) rfl (fun ls hl => ?_)
  refine lv_aload_n hx hb dX6_stones_75 rfl (lv_at hl 1 rfl) ?_
  refine lv_iconst (v := 0) hx hb dX6_stones_76 (by decide) ?_
  refine lv_bipush (v := 11) hx hb dX6_stones_77 (by decide) ?_
  obtain ⟨g36, hF⟩ := gd_s hF
  obtain ⟨⟨o43, S40, M39, n41, z42⟩, e37, hF⟩ := ob_s hF
  have hc := mn_X6_number e37
  rcases xk_s hF with ⟨v38, h44, hF⟩ | ⟨q45, h44, hF⟩
  · subst h44
    have hm := (mn_X6_stones_82 (V := V) k4 hmk4) hF
    refine xm_callV (As := [.int (0 : Int32), .int (11 : Int32)]) (rest := []) X hp (w_X6_number hV hVs hs hVx e37) q825 q827 qs20 q148 q828 2 rfl ds_X6_number ⟨Nat.le_of_ble_eq_true rfl, Nat.le_of_ble_eq_true rfl⟩ 7 (T := TX6) (N := 10) rfl (by decide) g36 hl.1 rfl (Nat.le_of_ble_eq_true rfl) dX6_stones_79 ⟨by show _ ≤ n' - nS; omega, by show _ ≤ z' - zS; omega⟩ (fun H locs hp => ?_)
    refine W.widen (k := n41 - nS) (n := z42 - zS) (by omega) (by omega) ?_
    exact b_X6_stones_82 hV hVs hs hVx X hX k4 hmk4 hk4 _ _ _ _ _ _ _ _ _ _ _ (by omega) (by omega) hp (lv_sub hl [1, 2, 0] rfl) hF
  · subst h44
    cases hF
    exact xm_callVT (As := [.int (0 : Int32), .int (11 : Int32)]) (rest := []) X hX hp (w_X6_number hV hVs hs hVx e37) q825 q827 qs20 q148 q828 2 rfl ds_X6_number ⟨Nat.le_of_ble_eq_true rfl, Nat.le_of_ble_eq_true rfl⟩ 7 (T := TX6) (N := 10) rfl (by decide) g36 hl.1 rfl (Nat.le_of_ble_eq_true rfl) dX6_stones_79 ⟨by show _ ≤ n' - nS; omega, by show _ ≤ z' - zS; omega⟩ ⟨by omega, by omega⟩
def fb_X6_stones_4 (V : Nat → Nat) : Nat → mSh → mMm → Nat → Nat → Nat → Option ((Nat ⊕ Nat) × mSh × mMm × Nat × Nat)
  | 0, _, _, _, _, _ => none
  | t + 1, S, M, n, z, x0 => ob (rI S M x0 7 5) fun v5 => (if v5 = 0 then ob (rR S M x0 7 1) fun v8 => some (.inl v8, S, M, n, z) else ob (rI S M x0 7 5) fun v10 => nm ((v10 - (10 : Int32))) fun v12 => ob (f_X0_isIn v12 (0 : Int32) (3 : Int32)) fun v15 => (if v15 = 0 then ob (rI S M x0 7 4) fun v34 => some (.inr n, mSF S n, mMF M n (1 : Int32) v34, n + 1, z + 8) else ob (rI S M x0 7 8) fun v17 => (if v17 = (16 : Int32) then ob (rI S M x0 7 4) fun v32 => some (.inr n, mSF S n, mMF M n (3 : Int32) v32, n + 1, z + 8) else ob (f_X6_next V S M x0) fun M22 => ob (f_X6_number V S M22 n z x0 (0 : Int32) (11 : Int32)) fun ⟨o29, S26, M25, n27, z28⟩ => xk o29 S26 M25 n27 z28 fun v24 => (fb_X6_stones_74 V (fb_X6_stones_4 V t) S26 M25 n27 z28 x0 v12 v24))))
theorem mn_X6_stones_4 {r : Nat ⊕ Nat} {S' : mSh} {M' : mMm} {n' z' : Nat} : ∀ {t : Nat} {S : mSh} {M : mMm} {n z : Nat} {x0 : Nat}, fb_X6_stones_4 V t S M n z x0 = some (r, S', M', n', z') → n ≤ n' ∧ z ≤ z' := by
  intro t
  induction t with
  | zero =>
    intro S M n z x0 hF
    have hF : none = some (r, S', M', n', z') := hF
    cases hF
  | succ t ihm =>
    intro S M n z x0 hF
    rw [fb_X6_stones_4] at hF
    obtain ⟨v5, e6, hF⟩ := ob_s hF
    rcases Decidable.em (v5 = 0) with c7 | c7
    · have hF := if_p c7 hF
      obtain ⟨v8, e9, hF⟩ := ob_s hF
      cases hF
      exact ⟨Nat.le_refl _, Nat.le_refl _⟩
    · have hF := if_n c7 hF
      obtain ⟨v10, e11, hF⟩ := ob_s hF
      have hF := nm_s hF rfl
      obtain ⟨v15, e14, hF⟩ := ob_s hF
      rcases (Decidable.em (v15 = 0)).symm with c16 | c16
      · have hF := if_n c16 hF
        obtain ⟨v17, e18, hF⟩ := ob_s hF
        rcases (Decidable.em (v17 = (16 : Int32))).symm with c19 | c19
        · have hF := if_n c19 hF
          obtain ⟨M22, e20, hF⟩ := ob_s hF
          obtain ⟨⟨o29, S26, M25, n27, z28⟩, e23, hF⟩ := ob_s hF
          have hc := mn_X6_number e23
          rcases xk_s hF with ⟨v24, h30, hF⟩ | ⟨q31, h30, hF⟩
          · subst h30
            have h9 := (mn_X6_stones_74 (V := V) (fb_X6_stones_4 V t) @ihm) hF
            exact ⟨by omega, by omega⟩
          · subst h30
            cases hF
            exact ⟨by omega, by omega⟩
        · have hF := if_p c19 hF
          obtain ⟨v32, e33, hF⟩ := ob_s hF
          cases hF
          exact ⟨by omega, by omega⟩
      · have hF := if_p c16 hF
        obtain ⟨v34, e35, hF⟩ := ob_s hF
        cases hF
        exact ⟨by omega, by omega⟩
theorem b_X6_stones_4 {r : Nat ⊕ Nat} {S' : mSh} {M' : mMm} {n' z' : Nat} {nS zS : Nat} (hV : mV V n0 P) (hVs : mVs V n0 P) (hs : l.stackTraces = false) (hVx : mVx n0 P) (X : mCx D n0 P p m c cX6_stones 6 s args yX6_stones.cls meth (some (.array (.int)))) (hX : ∀ x ∈ c.exceptionTable.toList, False) : ∀ t : Nat, ∀ (S : mSh) (M : mMm) (n z : Nat) (x0 : Nat) (H : Heap) (locs : List Loc) (ls : Array Slot), nS ≤ n → zS ≤ z → mHp D n0 S M n s H locs → lv_has ls 6 [(0, .ref x0)] → fb_X6_stones_4 V t S M n z x0 = some (r, S', M', n', z') → W p l e (Rm_X6_stones (n' - nS) (z' - zS)) s m args below meth c H locs (n - nS) (z - zS) (mMX below D n0 (moR r) S' M' n' args s (n' - nS) (z' - zS)) (F0 m 4 ls []) := by
  have hx := X.1.1
  have hb := X.1.2.1
  have hown := X.1.2.2.2.1
  have hts := X.1.2.2.2.2
  intro t
  induction t with
  | zero =>
    intro S M n z x0 H locs ls hn hz hp hl hF
    have hF : none = some (r, S', M', n', z') := hF
    cases hF
  | succ t ih =>
    intro S M n z x0 H locs ls hn hz hp hl hF
    have ihm := @mn_X6_stones_4 V r S' M' n' z' t
    have hm0 := mn_X6_stones_4 hF
    rw [fb_X6_stones_4] at hF
    refine lv_aload_n hx hb dX6_stones_4 rfl (lv_at hl 0 rfl) ?_
    obtain ⟨v5, e6, hF⟩ := ob_s hF
    refine m_getI X hp e6 kX6 (Nat.le_of_ble_eq_true rfl) q590 dX6_stones_5 ?_
    refine lv_if_eq (tgt := 150) hx hb dX6_stones_8 (by decide) (fun c7 => ?_) (fun c7 => ?_)
    · have hF := if_p c7 hF
      refine lv_aload_n hx hb dX6_stones_150 rfl (lv_at hl 0 rfl) ?_
      obtain ⟨v8, e9, hF⟩ := ob_s hF
      refine m_getR X hp e9 kX6 (Nat.le_of_ble_eq_true rfl) q586 dX6_stones_151 ?_
      cases hF
      exact xm_ret (m_aret X hp (Or.inr ⟨_, rfl⟩) dX6_stones_154)
    · have hF := if_n c7 hF
      refine lv_aload_n hx hb dX6_stones_11 rfl (lv_at hl 0 rfl) ?_
      obtain ⟨v10, e11, hF⟩ := ob_s hF
      refine m_getI X hp e11 kX6 (Nat.le_of_ble_eq_true rfl) q590 dX6_stones_12 ?_
      refine lv_bipush (v := 10) hx hb dX6_stones_15 (by decide) ?_
      refine lv_isub hx hb dX6_stones_17 ?_
      refine lv_topi (fun v12 ev13 => ?_)
      have hF := nm_s hF ev13
      refine lv_istore_n (lv' := [(1, .int v12), (0, .ref x0)]) hx hb dX6_stones_18 rfl hl (by decide) rfl (fun ls hl => ?_)
      refine lv_iload_n hx hb dX6_stones_19 rfl (lv_at hl 0 rfl) ?_
      refine lv_iconst (v := 0) hx hb dX6_stones_20 (by decide) ?_
      refine lv_iconst (v := 3) hx hb dX6_stones_21 (by decide) ?_
      obtain ⟨v15, e14, hF⟩ := ob_s hF
      refine m_callSN (As := [.int v12, .int (0 : Int32), .int (3 : Int32)]) (rest := []) X hp (w_X0_isIn e14) q633 q566 q132 q567 3 rfl ds_X0_isIn ⟨Nat.le_of_ble_eq_true rfl, Nat.le_of_ble_eq_true rfl⟩ hl.1 rfl (Nat.le_of_ble_eq_true rfl) dX6_stones_22 ⟨by show _ + 0 ≤ n' - nS; omega, by show _ + 0 ≤ z' - zS; omega⟩ (fun H locs hp => ?_)
      refine lv_if_ne (tgt := 41) hx hb dX6_stones_25 (by decide) (fun c16 => ?_) (fun c16 => ?_)
      · have hF := if_n c16 hF
        refine lv_aload_n hx hb dX6_stones_41 rfl (lv_at hl 1 rfl) ?_
        obtain ⟨v17, e18, hF⟩ := ob_s hF
        refine m_getI X hp e18 kX6 (Nat.le_of_ble_eq_true rfl) q594 dX6_stones_42 ?_
        refine lv_bipush (v := 16) hx hb dX6_stones_45 (by decide) ?_
        refine lv_icmp_ne (tgt := 63) hx hb dX6_stones_47 (by decide) (fun c19 => ?_) (fun c19 => ?_)
        · have hF := if_n c19 hF
          refine lv_aload_n hx hb dX6_stones_63 rfl (lv_at hl 1 rfl) ?_
          obtain ⟨M22, e20, hF⟩ := ob_s hF
          refine m_callV (As := []) (rest := []) X hp (w_X6_next hVs e20) q621 q623 qs5 q148 q624 0 rfl ds_X6_next ⟨Nat.le_of_ble_eq_true rfl, Nat.le_of_ble_eq_true rfl⟩ 7 (T := TX6) (N := 10) rfl (by decide) (rI_s e18).1 hl.1 rfl (Nat.le_of_ble_eq_true rfl) dX6_stones_64 ⟨by show _ + 0 ≤ n' - nS; omega, by show _ + 0 ≤ z' - zS; omega⟩ (fun H locs hp => ?_)
          refine lv_aload_n hx hb dX6_stones_67 rfl (lv_at hl 1 rfl) ?_
          refine lv_iconst (v := 0) hx hb dX6_stones_68 (by decide) ?_
          refine lv_bipush (v := 11) hx hb dX6_stones_69 (by decide) ?_
          obtain ⟨⟨o29, S26, M25, n27, z28⟩, e23, hF⟩ := ob_s hF
          have hc := mn_X6_number e23
          rcases xk_s hF with ⟨v24, h30, hF⟩ | ⟨q31, h30, hF⟩
          · subst h30
            have hm := (mn_X6_stones_74 (V := V) (fb_X6_stones_4 V t) @ihm) hF
            refine xm_callV (As := [.int (0 : Int32), .int (11 : Int32)]) (rest := []) X hp (w_X6_number hV hVs hs hVx e23) q825 q827 qs20 q148 q828 2 rfl ds_X6_number ⟨Nat.le_of_ble_eq_true rfl, Nat.le_of_ble_eq_true rfl⟩ 7 (T := TX6) (N := 10) rfl (by decide) (rI_s e18).1 hl.1 rfl (Nat.le_of_ble_eq_true rfl) dX6_stones_71 ⟨by show _ ≤ n' - nS; omega, by show _ ≤ z' - zS; omega⟩ (fun H locs hp => ?_)
            refine W.widen (k := n27 - nS) (n := z28 - zS) (by omega) (by omega) ?_
            exact b_X6_stones_74 hV hVs hs hVx X hX (fb_X6_stones_4 V t) @ihm ih _ _ _ _ _ _ _ _ _ _ (by omega) (by omega) hp (lv_sub hl [1, 0] rfl) hF
          · subst h30
            cases hF
            exact xm_callVT (As := [.int (0 : Int32), .int (11 : Int32)]) (rest := []) X hX hp (w_X6_number hV hVs hs hVx e23) q825 q827 qs20 q148 q828 2 rfl ds_X6_number ⟨Nat.le_of_ble_eq_true rfl, Nat.le_of_ble_eq_true rfl⟩ 7 (T := TX6) (N := 10) rfl (by decide) (rI_s e18).1 hl.1 rfl (Nat.le_of_ble_eq_true rfl) dX6_stones_71 ⟨by show _ ≤ n' - nS; omega, by show _ ≤ z' - zS; omega⟩ ⟨by omega, by omega⟩
        · have hF := if_p c19 hF
          obtain ⟨v32, e33, hF⟩ := ob_s hF
          cases hF
          exact xm_throw (rest := []) (kd := 3) X hX hs hVx hp (lv_at hl 1 rfl) hl.1 (by decide) e33 dX6_stones_50 dX6_stones_53 dX6_stones_54 dX6_stones_55 dX6_stones_56 dX6_stones_59 dX6_stones_62 (Nat.le_of_ble_eq_true rfl) ⟨Nat.le_of_ble_eq_true rfl, Nat.le_of_ble_eq_true rfl⟩ ⟨by show _ ≤ n + 1 - nS; omega, by show _ ≤ z + 8 - zS; omega⟩ ⟨by omega, by omega⟩
      · have hF := if_p c16 hF
        obtain ⟨v34, e35, hF⟩ := ob_s hF
        cases hF
        exact xm_throw (rest := []) (kd := 1) X hX hs hVx hp (lv_at hl 1 rfl) hl.1 (by decide) e35 dX6_stones_28 dX6_stones_31 dX6_stones_32 dX6_stones_33 dX6_stones_34 dX6_stones_37 dX6_stones_40 (Nat.le_of_ble_eq_true rfl) ⟨Nat.le_of_ble_eq_true rfl, Nat.le_of_ble_eq_true rfl⟩ ⟨by show _ ≤ n + 1 - nS; omega, by show _ ≤ z + 8 - zS; omega⟩ ⟨by omega, by omega⟩
def fb_X6_stones_0 (V : Nat → Nat) (S : mSh) (M : mMm) (n z : Nat) (x0 : Nat) : Option ((Nat ⊕ Nat) × mSh × mMm × Nat × Nat) := gd ((S x0).1 = 7) (ob (f_X6_next V S M x0) fun M4 => (fb_X6_stones_4 V FU S M4 n z x0))
theorem mn_X6_stones_0 {r : Nat ⊕ Nat} {S' : mSh} {M' : mMm} {n' z' : Nat} : ∀ {S : mSh} {M : mMm} {n z : Nat} {x0 : Nat}, fb_X6_stones_0 V S M n z x0 = some (r, S', M', n', z') → n ≤ n' ∧ z ≤ z' := by
  intro S M n z x0 hF
  unfold fb_X6_stones_0 at hF
  obtain ⟨g1, hF⟩ := gd_s hF
  obtain ⟨M4, e2, hF⟩ := ob_s hF
  have h9 := (mn_X6_stones_4 (V := V)) hF
  exact ⟨by omega, by omega⟩
theorem b_X6_stones_0 {r : Nat ⊕ Nat} {S' : mSh} {M' : mMm} {n' z' : Nat} {nS zS : Nat} (hV : mV V n0 P) (hVs : mVs V n0 P) (hs : l.stackTraces = false) (hVx : mVx n0 P) (X : mCx D n0 P p m c cX6_stones 6 s args yX6_stones.cls meth (some (.array (.int)))) (hX : ∀ x ∈ c.exceptionTable.toList, False) : ∀ (S : mSh) (M : mMm) (n z : Nat) (x0 : Nat) (H : Heap) (locs : List Loc) (ls : Array Slot), nS ≤ n → zS ≤ z → mHp D n0 S M n s H locs → lv_has ls 6 [(0, .ref x0)] → fb_X6_stones_0 V S M n z x0 = some (r, S', M', n', z') → W p l e (Rm_X6_stones (n' - nS) (z' - zS)) s m args below meth c H locs (n - nS) (z - zS) (mMX below D n0 (moR r) S' M' n' args s (n' - nS) (z' - zS)) (F0 m 0 ls []) := by
  have hx := X.1.1
  have hb := X.1.2.1
  have hown := X.1.2.2.2.1
  have hts := X.1.2.2.2.2
  intro S M n z x0 H locs ls hn hz hp hl hF
  have hm0 := mn_X6_stones_0 hF
  unfold fb_X6_stones_0 at hF
  refine lv_aload_n hx hb dX6_stones_0 rfl (lv_at hl 0 rfl) ?_
  obtain ⟨g1, hF⟩ := gd_s hF
  obtain ⟨M4, e2, hF⟩ := ob_s hF
  refine m_callV (As := []) (rest := []) X hp (w_X6_next hVs e2) q621 q623 qs5 q148 q624 0 rfl ds_X6_next ⟨Nat.le_of_ble_eq_true rfl, Nat.le_of_ble_eq_true rfl⟩ 7 (T := TX6) (N := 10) rfl (by decide) g1 hl.1 rfl (Nat.le_of_ble_eq_true rfl) dX6_stones_1 ⟨by show _ + 0 ≤ n' - nS; omega, by show _ + 0 ≤ z' - zS; omega⟩ (fun H locs hp => ?_)
  exact b_X6_stones_4 hV hVs hs hVx X hX _ _ _ _ _ _ _ _ _ (by omega) (by omega) hp (lv_sub hl [0] rfl) hF
def f_X6_stones (V : Nat → Nat) (S : mSh) (M : mMm) (n z : Nat) (x0 : Nat) : Option ((Nat ⊕ Nat) × mSh × mMm × Nat × Nat) := (fb_X6_stones_0 V S M n z x0)
theorem mn_X6_stones {x0 : Nat} {r : Nat ⊕ Nat} {S' : mSh} {M' : mMm} {n' z' : Nat} {S : mSh} {M : mMm} {n z : Nat} (hF : f_X6_stones V S M n z x0 = some (r, S', M', n', z')) : n ≤ n' ∧ z ≤ z' := by
  unfold f_X6_stones at hF
  exact mn_X6_stones_0 hF
theorem w_X6_stones {x0 : Nat} {r : Nat ⊕ Nat} {S' : mSh} {M' : mMm} {n' z' : Nat} {S : mSh} {M : mMm} {n z : Nat} (hV : mV V n0 P) (hVs : mVs V n0 P) (hs : l.stackTraces = false) (hVx : mVx n0 P) (hF : f_X6_stones V S M n z x0 = some (r, S', M', n', z')) : mXt l D n0 P yX6_stones cX6_stones 6 (some (.array (.int))) 10 267 (n' - n) (z' - z) [.ref x0] S M n (moR r) S' M' n' := by
  refine m_ofX (by decide) (Nat.le_of_ble_eq_true rfl) (fun p e s m below meth c X hX hp ls hl => ?_)
  unfold f_X6_stones at hF
  refine W.widen (k := n - n) (n := z - z) (by omega) (by omega) ?_
  exact b_X6_stones_0 hV hVs hs hVx X hX _ _ _ _ _ _ _ _ (Nat.le_refl _) (Nat.le_refl _) hp hl hF
end
section
variable {l : Launch} {D : va_G} {n0 : Nat} {P : mP} {V : Nat → Nat} {p : Program} {e : Env} {s : State} {m : MethodId} {args : Array Value} {below : List Frame} {meth : Method} {c : Code}
abbrev Rm_X6_step (mc ms : Nat) : Room := { frames := 10, cells := mc, slots := ms, locals := 267 }
def fb_X6_step_43 (V : Nat → Nat) (S : mSh) (M : mMm) (n z : Nat) (y0 : Int32) (y1 : Int32) (y2 : Nat) (y3 : Nat) : Option ((Nat ⊕ Nat) × mSh × mMm × Nat × Nat) := ob (f_X2_init S M y2 y1 y0 (0 : Int32)) fun M26 => some (.inl y3, S, M26, n, z)
theorem mn_X6_step_43 {r : Nat ⊕ Nat} {S' : mSh} {M' : mMm} {n' z' : Nat} : ∀ {S : mSh} {M : mMm} {n z : Nat} {y0 : Int32} {y1 : Int32} {y2 : Nat} {y3 : Nat}, fb_X6_step_43 V S M n z y0 y1 y2 y3 = some (r, S', M', n', z') → n ≤ n' ∧ z ≤ z' := by
  intro S M n z y0 y1 y2 y3 hF
  unfold fb_X6_step_43 at hF
  obtain ⟨M26, e24, hF⟩ := ob_s hF
  cases hF
  exact ⟨Nat.le_refl _, Nat.le_refl _⟩
theorem b_X6_step_43 {r : Nat ⊕ Nat} {S' : mSh} {M' : mMm} {n' z' : Nat} {nS zS : Nat} (hV : mV V n0 P) (hVs : mVs V n0 P) (hs : l.stackTraces = false) (hVx : mVx n0 P) (X : mCx D n0 P p m c cX6_step 2 s args yX6_step.cls meth (some (.object "WindingSquare$Step"))) (hX : ∀ x ∈ c.exceptionTable.toList, False) : ∀ (S : mSh) (M : mMm) (n z : Nat) (y0 : Int32) (y1 : Int32) (y2 : Nat) (y3 : Nat) (H : Heap) (locs : List Loc) (ls : Array Slot), nS ≤ n → zS ≤ z → mHp D n0 S M n s H locs → lv_has ls 2 [] → fb_X6_step_43 V S M n z y0 y1 y2 y3 = some (r, S', M', n', z') → W p l e (Rm_X6_step (n' - nS) (z' - zS)) s m args below meth c H locs (n - nS) (z - zS) (mMX below D n0 (moR r) S' M' n' args s (n' - nS) (z' - zS)) (F0 m 43 ls [.int y0, .int y1, .ref y2, .ref y3]) := by
  have hx := X.1.1
  have hb := X.1.2.1
  have hown := X.1.2.2.2.1
  have hts := X.1.2.2.2.2
  intro S M n z y0 y1 y2 y3 H locs ls hn hz hp hl hF
  have hm0 := mn_X6_step_43 hF
  unfold fb_X6_step_43 at hF
  refine lv_iconst (v := 0) hx hb dX6_step_43 (by decide) ?_
  obtain ⟨M26, e24, hF⟩ := ob_s hF
  refine m_callI (As := [.int y1, .int y0, .int (0 : Int32)]) (rest := [.ref y3]) X hp (w_X2_init e24) q948 q181 q134 q182 rfl 3 rfl ds_X2_init ⟨Nat.le_of_ble_eq_true rfl, Nat.le_of_ble_eq_true rfl⟩ hl.1 rfl (Nat.le_of_ble_eq_true rfl) dX6_step_44 ⟨by show _ + 0 ≤ n' - nS; omega, by show _ + 0 ≤ z' - zS; omega⟩ (fun H locs hp => ?_)
  cases hF
  exact xm_ret (m_aret X hp (Or.inl ⟨_, rfl⟩) dX6_step_47)
def fb_X6_step_36 (V : Nat → Nat) (S : mSh) (M : mMm) (n z : Nat) (x0 : Nat) (y0 : Int32) (y1 : Nat) (y2 : Nat) : Option ((Nat ⊕ Nat) × mSh × mMm × Nat × Nat) := gd ((S x0).1 = 7) (ob (f_X6_number V S M n z x0 (1 : Int32) (11 : Int32)) fun ⟨o21, S18, M17, n19, z20⟩ => xk o21 S18 M17 n19 z20 fun v16 => (fb_X6_step_43 V S18 M17 n19 z20  v16 y0 y1 y2))
theorem mn_X6_step_36 {r : Nat ⊕ Nat} {S' : mSh} {M' : mMm} {n' z' : Nat} : ∀ {S : mSh} {M : mMm} {n z : Nat} {x0 : Nat} {y0 : Int32} {y1 : Nat} {y2 : Nat}, fb_X6_step_36 V S M n z x0 y0 y1 y2 = some (r, S', M', n', z') → n ≤ n' ∧ z ≤ z' := by
  intro S M n z x0 y0 y1 y2 hF
  unfold fb_X6_step_36 at hF
  obtain ⟨g14, hF⟩ := gd_s hF
  obtain ⟨⟨o21, S18, M17, n19, z20⟩, e15, hF⟩ := ob_s hF
  have hc := mn_X6_number e15
  rcases xk_s hF with ⟨v16, h22, hF⟩ | ⟨q23, h22, hF⟩
  · subst h22
    have h9 := (mn_X6_step_43 (V := V)) hF
    exact ⟨by omega, by omega⟩
  · subst h22
    cases hF
    exact ⟨by omega, by omega⟩
theorem b_X6_step_36 {r : Nat ⊕ Nat} {S' : mSh} {M' : mMm} {n' z' : Nat} {nS zS : Nat} (hV : mV V n0 P) (hVs : mVs V n0 P) (hs : l.stackTraces = false) (hVx : mVx n0 P) (X : mCx D n0 P p m c cX6_step 2 s args yX6_step.cls meth (some (.object "WindingSquare$Step"))) (hX : ∀ x ∈ c.exceptionTable.toList, False) : ∀ (S : mSh) (M : mMm) (n z : Nat) (x0 : Nat) (y0 : Int32) (y1 : Nat) (y2 : Nat) (H : Heap) (locs : List Loc) (ls : Array Slot), nS ≤ n → zS ≤ z → mHp D n0 S M n s H locs → lv_has ls 2 [(0, .ref x0)] → fb_X6_step_36 V S M n z x0 y0 y1 y2 = some (r, S', M', n', z') → W p l e (Rm_X6_step (n' - nS) (z' - zS)) s m args below meth c H locs (n - nS) (z - zS) (mMX below D n0 (moR r) S' M' n' args s (n' - nS) (z' - zS)) (F0 m 36 ls [.int y0, .ref y1, .ref y2]) := by
  have hx := X.1.1
  have hb := X.1.2.1
  have hown := X.1.2.2.2.1
  have hts := X.1.2.2.2.2
  intro S M n z x0 y0 y1 y2 H locs ls hn hz hp hl hF
  have hm0 := mn_X6_step_36 hF
  unfold fb_X6_step_36 at hF
  refine lv_aload_n hx hb dX6_step_36 rfl (lv_at hl 0 rfl) ?_
  refine lv_iconst (v := 1) hx hb dX6_step_37 (by decide) ?_
  refine lv_bipush (v := 11) hx hb dX6_step_38 (by decide) ?_
  obtain ⟨g14, hF⟩ := gd_s hF
  obtain ⟨⟨o21, S18, M17, n19, z20⟩, e15, hF⟩ := ob_s hF
  have hc := mn_X6_number e15
  rcases xk_s hF with ⟨v16, h22, hF⟩ | ⟨q23, h22, hF⟩
  · subst h22
    have hm := (mn_X6_step_43 (V := V)) hF
    refine xm_callV (As := [.int (1 : Int32), .int (11 : Int32)]) (rest := [.int y0, .ref y1, .ref y2]) X hp (w_X6_number hV hVs hs hVx e15) q825 q827 qs20 q148 q828 2 rfl ds_X6_number ⟨Nat.le_of_ble_eq_true rfl, Nat.le_of_ble_eq_true rfl⟩ 7 (T := TX6) (N := 10) rfl (by decide) g14 hl.1 rfl (Nat.le_of_ble_eq_true rfl) dX6_step_40 ⟨by show _ ≤ n' - nS; omega, by show _ ≤ z' - zS; omega⟩ (fun H locs hp => ?_)
    refine W.widen (k := n19 - nS) (n := z20 - zS) (by omega) (by omega) ?_
    exact b_X6_step_43 hV hVs hs hVx X hX _ _ _ _  _ _ _ _ _ _ _ (by omega) (by omega) hp (lv_sub hl [] rfl) hF
  · subst h22
    cases hF
    exact xm_callVT (As := [.int (1 : Int32), .int (11 : Int32)]) (rest := [.int y0, .ref y1, .ref y2]) X hX hp (w_X6_number hV hVs hs hVx e15) q825 q827 qs20 q148 q828 2 rfl ds_X6_number ⟨Nat.le_of_ble_eq_true rfl, Nat.le_of_ble_eq_true rfl⟩ 7 (T := TX6) (N := 10) rfl (by decide) g14 hl.1 rfl (Nat.le_of_ble_eq_true rfl) dX6_step_40 ⟨by show _ ≤ n' - nS; omega, by show _ ≤ z' - zS; omega⟩ ⟨by omega, by omega⟩
def fb_X6_step_24 (V : Nat → Nat) (S : mSh) (M : mMm) (n z : Nat) (x0 : Nat) (x1 : Int32) (y0 : Nat) : Option ((Nat ⊕ Nat) × mSh × mMm × Nat × Nat) := (if x1 = (16 : Int32) then (fb_X6_step_36 V S M n z x0 (1 : Int32) y0 y0) else (fb_X6_step_36 V S M n z x0 (0 : Int32) y0 y0))
theorem mn_X6_step_24 {r : Nat ⊕ Nat} {S' : mSh} {M' : mMm} {n' z' : Nat} : ∀ {S : mSh} {M : mMm} {n z : Nat} {x0 : Nat} {x1 : Int32} {y0 : Nat}, fb_X6_step_24 V S M n z x0 x1 y0 = some (r, S', M', n', z') → n ≤ n' ∧ z ≤ z' := by
  intro S M n z x0 x1 y0 hF
  unfold fb_X6_step_24 at hF
  rcases (Decidable.em (x1 = (16 : Int32))).symm with c13 | c13
  · have hF := if_n c13 hF
    have h9 := (mn_X6_step_36 (V := V)) hF
    exact ⟨by omega, by omega⟩
  · have hF := if_p c13 hF
    have h9 := (mn_X6_step_36 (V := V)) hF
    exact ⟨by omega, by omega⟩
theorem b_X6_step_24 {r : Nat ⊕ Nat} {S' : mSh} {M' : mMm} {n' z' : Nat} {nS zS : Nat} (hV : mV V n0 P) (hVs : mVs V n0 P) (hs : l.stackTraces = false) (hVx : mVx n0 P) (X : mCx D n0 P p m c cX6_step 2 s args yX6_step.cls meth (some (.object "WindingSquare$Step"))) (hX : ∀ x ∈ c.exceptionTable.toList, False) : ∀ (S : mSh) (M : mMm) (n z : Nat) (x0 : Nat) (x1 : Int32) (y0 : Nat) (H : Heap) (locs : List Loc) (ls : Array Slot), nS ≤ n → zS ≤ z → mHp D n0 S M n s H locs → lv_has ls 2 [(0, .ref x0), (1, .int x1)] → fb_X6_step_24 V S M n z x0 x1 y0 = some (r, S', M', n', z') → W p l e (Rm_X6_step (n' - nS) (z' - zS)) s m args below meth c H locs (n - nS) (z - zS) (mMX below D n0 (moR r) S' M' n' args s (n' - nS) (z' - zS)) (F0 m 24 ls [.ref y0]) := by
  have hx := X.1.1
  have hb := X.1.2.1
  have hown := X.1.2.2.2.1
  have hts := X.1.2.2.2.2
  intro S M n z x0 x1 y0 H locs ls hn hz hp hl hF
  have hm0 := mn_X6_step_24 hF
  unfold fb_X6_step_24 at hF
  refine lv_dup hx hb dX6_step_24 rfl ?_
  refine lv_iload_n hx hb dX6_step_25 rfl (lv_at hl 1 rfl) ?_
  refine lv_bipush (v := 16) hx hb dX6_step_26 (by decide) ?_
  refine lv_icmp_ne (tgt := 35) hx hb dX6_step_28 (by decide) (fun c13 => ?_) (fun c13 => ?_)
  · have hF := if_n c13 hF
    refine lv_iconst (v := 0) hx hb dX6_step_35 (by decide) ?_
    exact b_X6_step_36 hV hVs hs hVx X hX _ _ _ _ _ _ _ _ _ _ _ (by omega) (by omega) hp (lv_sub hl [0] rfl) hF
  · have hF := if_p c13 hF
    refine lv_iconst (v := 1) hx hb dX6_step_31 (by decide) ?_
    refine lv_goto (tgt := 36) hx hb dX6_step_32 (by decide) ?_
    exact b_X6_step_36 hV hVs hs hVx X hX _ _ _ _ _ _ _ _ _ _ _ (by omega) (by omega) hp (lv_sub hl [0] rfl) hF
def fb_X6_step_21 (V : Nat → Nat) (S : mSh) (M : mMm) (n z : Nat) (x0 : Nat) (x1 : Int32) : Option ((Nat ⊕ Nat) × mSh × mMm × Nat × Nat) := (fb_X6_step_24 V (mS1 S n (3, 0)) (mM1 M n fun k => defaultValue (tyX2 k)) (n + 1) (z + 3) x0 x1 n)
theorem mn_X6_step_21 {r : Nat ⊕ Nat} {S' : mSh} {M' : mMm} {n' z' : Nat} : ∀ {S : mSh} {M : mMm} {n z : Nat} {x0 : Nat} {x1 : Int32}, fb_X6_step_21 V S M n z x0 x1 = some (r, S', M', n', z') → n ≤ n' ∧ z ≤ z' := by
  intro S M n z x0 x1 hF
  unfold fb_X6_step_21 at hF
  have h9 := (mn_X6_step_24 (V := V)) hF
  exact ⟨by omega, by omega⟩
theorem b_X6_step_21 {r : Nat ⊕ Nat} {S' : mSh} {M' : mMm} {n' z' : Nat} {nS zS : Nat} (hV : mV V n0 P) (hVs : mVs V n0 P) (hs : l.stackTraces = false) (hVx : mVx n0 P) (X : mCx D n0 P p m c cX6_step 2 s args yX6_step.cls meth (some (.object "WindingSquare$Step"))) (hX : ∀ x ∈ c.exceptionTable.toList, False) : ∀ (S : mSh) (M : mMm) (n z : Nat) (x0 : Nat) (x1 : Int32) (H : Heap) (locs : List Loc) (ls : Array Slot), nS ≤ n → zS ≤ z → mHp D n0 S M n s H locs → lv_has ls 2 [(0, .ref x0), (1, .int x1)] → fb_X6_step_21 V S M n z x0 x1 = some (r, S', M', n', z') → W p l e (Rm_X6_step (n' - nS) (z' - zS)) s m args below meth c H locs (n - nS) (z - zS) (mMX below D n0 (moR r) S' M' n' args s (n' - nS) (z' - zS)) (F0 m 21 ls []) := by
  have hx := X.1.1
  have hb := X.1.2.1
  have hown := X.1.2.2.2.1
  have hts := X.1.2.2.2.2
  intro S M n z x0 x1 H locs ls hn hz hp hl hF
  have hm0 := mn_X6_step_21 hF
  unfold fb_X6_step_21 at hF
  have hm := (mn_X6_step_24 (V := V)) hF
  refine m_new X hp kX2 q947 q179 q134 (by show _ ≤ n' - nS; omega) (by show _ ≤ z' - zS; omega) dX6_step_21 (fun H hp => ?_)
  refine W.widen (k := n + 1 - nS) (n := z + 3 - zS) (by omega) (by omega) ?_
  exact b_X6_step_24 hV hVs hs hVx X hX _ _ _ _ _ _ _ _ _ _ (by omega) (by omega) hp (lv_sub hl [0, 1] rfl) hF
def fb_X6_step_75 (V : Nat → Nat) (S : mSh) (M : mMm) (n z : Nat) (y0 : Int32) (y1 : Int32) (y2 : Int32) (y3 : Nat) (y4 : Nat) : Option ((Nat ⊕ Nat) × mSh × mMm × Nat × Nat) := ob (f_X2_init S M y3 y2 y1 y0) fun M12 => some (.inl y4, S, M12, n, z)
theorem mn_X6_step_75 {r : Nat ⊕ Nat} {S' : mSh} {M' : mMm} {n' z' : Nat} : ∀ {S : mSh} {M : mMm} {n z : Nat} {y0 : Int32} {y1 : Int32} {y2 : Int32} {y3 : Nat} {y4 : Nat}, fb_X6_step_75 V S M n z y0 y1 y2 y3 y4 = some (r, S', M', n', z') → n ≤ n' ∧ z ≤ z' := by
  intro S M n z y0 y1 y2 y3 y4 hF
  unfold fb_X6_step_75 at hF
  obtain ⟨M12, e10, hF⟩ := ob_s hF
  cases hF
  exact ⟨Nat.le_refl _, Nat.le_refl _⟩
theorem b_X6_step_75 {r : Nat ⊕ Nat} {S' : mSh} {M' : mMm} {n' z' : Nat} {nS zS : Nat} (hV : mV V n0 P) (hVs : mVs V n0 P) (hs : l.stackTraces = false) (hVx : mVx n0 P) (X : mCx D n0 P p m c cX6_step 2 s args yX6_step.cls meth (some (.object "WindingSquare$Step"))) (hX : ∀ x ∈ c.exceptionTable.toList, False) : ∀ (S : mSh) (M : mMm) (n z : Nat) (y0 : Int32) (y1 : Int32) (y2 : Int32) (y3 : Nat) (y4 : Nat) (H : Heap) (locs : List Loc) (ls : Array Slot), nS ≤ n → zS ≤ z → mHp D n0 S M n s H locs → lv_has ls 2 [] → fb_X6_step_75 V S M n z y0 y1 y2 y3 y4 = some (r, S', M', n', z') → W p l e (Rm_X6_step (n' - nS) (z' - zS)) s m args below meth c H locs (n - nS) (z - zS) (mMX below D n0 (moR r) S' M' n' args s (n' - nS) (z' - zS)) (F0 m 75 ls [.int y0, .int y1, .int y2, .ref y3, .ref y4]) := by
  have hx := X.1.1
  have hb := X.1.2.1
  have hown := X.1.2.2.2.1
  have hts := X.1.2.2.2.2
  intro S M n z y0 y1 y2 y3 y4 H locs ls hn hz hp hl hF
  have hm0 := mn_X6_step_75 hF
  unfold fb_X6_step_75 at hF
  obtain ⟨M12, e10, hF⟩ := ob_s hF
  refine m_callI (As := [.int y2, .int y1, .int y0]) (rest := [.ref y4]) X hp (w_X2_init e10) q948 q181 q134 q182 rfl 3 rfl ds_X2_init ⟨Nat.le_of_ble_eq_true rfl, Nat.le_of_ble_eq_true rfl⟩ hl.1 rfl (Nat.le_of_ble_eq_true rfl) dX6_step_75 ⟨by show _ + 0 ≤ n' - nS; omega, by show _ + 0 ≤ z' - zS; omega⟩ (fun H locs hp => ?_)
  cases hF
  exact xm_ret (m_aret X hp (Or.inl ⟨_, rfl⟩) dX6_step_78)
def fb_X6_step_51 (V : Nat → Nat) (S : mSh) (M : mMm) (n z : Nat) (x1 : Int32) (y0 : Nat) : Option ((Nat ⊕ Nat) × mSh × mMm × Nat × Nat) := (if x1 = (18 : Int32) then (fb_X6_step_75 V S M n z  (3 : Int32) (1 : Int32) (0 : Int32) y0 y0) else (if x1 = (19 : Int32) then (fb_X6_step_75 V S M n z  (1 : Int32) (1 : Int32) (0 : Int32) y0 y0) else (fb_X6_step_75 V S M n z  (2 : Int32) (1 : Int32) (0 : Int32) y0 y0)))
theorem mn_X6_step_51 {r : Nat ⊕ Nat} {S' : mSh} {M' : mMm} {n' z' : Nat} : ∀ {S : mSh} {M : mMm} {n z : Nat} {x1 : Int32} {y0 : Nat}, fb_X6_step_51 V S M n z x1 y0 = some (r, S', M', n', z') → n ≤ n' ∧ z ≤ z' := by
  intro S M n z x1 y0 hF
  unfold fb_X6_step_51 at hF
  rcases (Decidable.em (x1 = (18 : Int32))).symm with c8 | c8
  · have hF := if_n c8 hF
    rcases (Decidable.em (x1 = (19 : Int32))).symm with c9 | c9
    · have hF := if_n c9 hF
      have h9 := (mn_X6_step_75 (V := V)) hF
      exact ⟨by omega, by omega⟩
    · have hF := if_p c9 hF
      have h9 := (mn_X6_step_75 (V := V)) hF
      exact ⟨by omega, by omega⟩
  · have hF := if_p c8 hF
    have h9 := (mn_X6_step_75 (V := V)) hF
    exact ⟨by omega, by omega⟩
theorem b_X6_step_51 {r : Nat ⊕ Nat} {S' : mSh} {M' : mMm} {n' z' : Nat} {nS zS : Nat} (hV : mV V n0 P) (hVs : mVs V n0 P) (hs : l.stackTraces = false) (hVx : mVx n0 P) (X : mCx D n0 P p m c cX6_step 2 s args yX6_step.cls meth (some (.object "WindingSquare$Step"))) (hX : ∀ x ∈ c.exceptionTable.toList, False) : ∀ (S : mSh) (M : mMm) (n z : Nat) (x1 : Int32) (y0 : Nat) (H : Heap) (locs : List Loc) (ls : Array Slot), nS ≤ n → zS ≤ z → mHp D n0 S M n s H locs → lv_has ls 2 [(1, .int x1)] → fb_X6_step_51 V S M n z x1 y0 = some (r, S', M', n', z') → W p l e (Rm_X6_step (n' - nS) (z' - zS)) s m args below meth c H locs (n - nS) (z - zS) (mMX below D n0 (moR r) S' M' n' args s (n' - nS) (z' - zS)) (F0 m 51 ls [.ref y0]) := by
  have hx := X.1.1
  have hb := X.1.2.1
  have hown := X.1.2.2.2.1
  have hts := X.1.2.2.2.2
  intro S M n z x1 y0 H locs ls hn hz hp hl hF
  have hm0 := mn_X6_step_51 hF
  unfold fb_X6_step_51 at hF
  refine lv_dup hx hb dX6_step_51 rfl ?_
  refine lv_iconst (v := 0) hx hb dX6_step_52 (by decide) ?_
  refine lv_iconst (v := 1) hx hb dX6_step_53 (by decide) ?_
  refine lv_iload_n hx hb dX6_step_54 rfl (lv_at hl 0 rfl) ?_
  refine lv_bipush (v := 18) hx hb dX6_step_55 (by decide) ?_
  refine lv_icmp_ne (tgt := 64) hx hb dX6_step_57 (by decide) (fun c8 => ?_) (fun c8 => ?_)
  · have hF := if_n c8 hF
    refine lv_iload_n hx hb dX6_step_64 rfl (lv_at hl 0 rfl) ?_
    refine lv_bipush (v := 19) hx hb dX6_step_65 (by decide) ?_
    refine lv_icmp_ne (tgt := 74) hx hb dX6_step_67 (by decide) (fun c9 => ?_) (fun c9 => ?_)
    · have hF := if_n c9 hF
      refine lv_iconst (v := 2) hx hb dX6_step_74 (by decide) ?_
      exact b_X6_step_75 hV hVs hs hVx X hX _ _ _ _  _ _ _ _ _ _ _ _ (by omega) (by omega) hp (lv_sub hl [] rfl) hF
    · have hF := if_p c9 hF
      refine lv_iconst (v := 1) hx hb dX6_step_70 (by decide) ?_
      refine lv_goto (tgt := 75) hx hb dX6_step_71 (by decide) ?_
      exact b_X6_step_75 hV hVs hs hVx X hX _ _ _ _  _ _ _ _ _ _ _ _ (by omega) (by omega) hp (lv_sub hl [] rfl) hF
  · have hF := if_p c8 hF
    refine lv_iconst (v := 3) hx hb dX6_step_60 (by decide) ?_
    refine lv_goto (tgt := 75) hx hb dX6_step_61 (by decide) ?_
    exact b_X6_step_75 hV hVs hs hVx X hX _ _ _ _  _ _ _ _ _ _ _ _ (by omega) (by omega) hp (lv_sub hl [] rfl) hF
def fb_X6_step_0 (V : Nat → Nat) (S : mSh) (M : mMm) (n z : Nat) (x0 : Nat) : Option ((Nat ⊕ Nat) × mSh × mMm × Nat × Nat) := ob (rI S M x0 7 5) fun v1 => ob (f_X6_next V S M x0) fun M5 => (if v1 = (16 : Int32) then (fb_X6_step_21 V S M5 n z x0 v1) else (if v1 = (17 : Int32) then (fb_X6_step_21 V S M5 n z x0 v1) else (fb_X6_step_51 V (mS1 S n (3, 0)) (mM1 M5 n fun k => defaultValue (tyX2 k)) (n + 1) (z + 3) v1 n)))
theorem mn_X6_step_0 {r : Nat ⊕ Nat} {S' : mSh} {M' : mMm} {n' z' : Nat} : ∀ {S : mSh} {M : mMm} {n z : Nat} {x0 : Nat}, fb_X6_step_0 V S M n z x0 = some (r, S', M', n', z') → n ≤ n' ∧ z ≤ z' := by
  intro S M n z x0 hF
  unfold fb_X6_step_0 at hF
  obtain ⟨v1, e2, hF⟩ := ob_s hF
  obtain ⟨M5, e3, hF⟩ := ob_s hF
  rcases Decidable.em (v1 = (16 : Int32)) with c6 | c6
  · have hF := if_p c6 hF
    have h9 := (mn_X6_step_21 (V := V)) hF
    exact ⟨by omega, by omega⟩
  · have hF := if_n c6 hF
    rcases (Decidable.em (v1 = (17 : Int32))).symm with c7 | c7
    · have hF := if_n c7 hF
      have h9 := (mn_X6_step_51 (V := V)) hF
      exact ⟨by omega, by omega⟩
    · have hF := if_p c7 hF
      have h9 := (mn_X6_step_21 (V := V)) hF
      exact ⟨by omega, by omega⟩
theorem b_X6_step_0 {r : Nat ⊕ Nat} {S' : mSh} {M' : mMm} {n' z' : Nat} {nS zS : Nat} (hV : mV V n0 P) (hVs : mVs V n0 P) (hs : l.stackTraces = false) (hVx : mVx n0 P) (X : mCx D n0 P p m c cX6_step 2 s args yX6_step.cls meth (some (.object "WindingSquare$Step"))) (hX : ∀ x ∈ c.exceptionTable.toList, False) : ∀ (S : mSh) (M : mMm) (n z : Nat) (x0 : Nat) (H : Heap) (locs : List Loc) (ls : Array Slot), nS ≤ n → zS ≤ z → mHp D n0 S M n s H locs → lv_has ls 2 [(0, .ref x0)] → fb_X6_step_0 V S M n z x0 = some (r, S', M', n', z') → W p l e (Rm_X6_step (n' - nS) (z' - zS)) s m args below meth c H locs (n - nS) (z - zS) (mMX below D n0 (moR r) S' M' n' args s (n' - nS) (z' - zS)) (F0 m 0 ls []) := by
  have hx := X.1.1
  have hb := X.1.2.1
  have hown := X.1.2.2.2.1
  have hts := X.1.2.2.2.2
  intro S M n z x0 H locs ls hn hz hp hl hF
  have hm0 := mn_X6_step_0 hF
  unfold fb_X6_step_0 at hF
  refine lv_aload_n hx hb dX6_step_0 rfl (lv_at hl 0 rfl) ?_
  obtain ⟨v1, e2, hF⟩ := ob_s hF
  refine m_getI X hp e2 kX6 (Nat.le_of_ble_eq_true rfl) q590 dX6_step_1 ?_
  refine lv_istore_n (lv' := [(1, .int v1), (0, .ref x0)]) hx hb dX6_step_4 rfl hl (by decide) rfl (fun ls hl => ?_)
  refine lv_aload_n hx hb dX6_step_5 rfl (lv_at hl 1 rfl) ?_
  obtain ⟨M5, e3, hF⟩ := ob_s hF
  refine m_callV (As := []) (rest := []) X hp (w_X6_next hVs e3) q621 q623 qs5 q148 q624 0 rfl ds_X6_next ⟨Nat.le_of_ble_eq_true rfl, Nat.le_of_ble_eq_true rfl⟩ 7 (T := TX6) (N := 10) rfl (by decide) (rI_s e2).1 hl.1 rfl (Nat.le_of_ble_eq_true rfl) dX6_step_6 ⟨by show _ + 0 ≤ n' - nS; omega, by show _ + 0 ≤ z' - zS; omega⟩ (fun H locs hp => ?_)
  refine lv_iload_n hx hb dX6_step_9 rfl (lv_at hl 0 rfl) ?_
  refine lv_bipush (v := 16) hx hb dX6_step_10 (by decide) ?_
  refine lv_icmp_eq (tgt := 21) hx hb dX6_step_12 (by decide) (fun c6 => ?_) (fun c6 => ?_)
  · have hF := if_p c6 hF
    exact b_X6_step_21 hV hVs hs hVx X hX _ _ _ _ _ _ _ _ _ (by omega) (by omega) hp (lv_sub hl [1, 0] rfl) hF
  · have hF := if_n c6 hF
    refine lv_iload_n hx hb dX6_step_15 rfl (lv_at hl 0 rfl) ?_
    refine lv_bipush (v := 17) hx hb dX6_step_16 (by decide) ?_
    refine lv_icmp_ne (tgt := 48) hx hb dX6_step_18 (by decide) (fun c7 => ?_) (fun c7 => ?_)
    · have hF := if_n c7 hF
      have hm := (mn_X6_step_51 (V := V)) hF
      refine m_new X hp kX2 q947 q179 q134 (by show _ ≤ n' - nS; omega) (by show _ ≤ z' - zS; omega) dX6_step_48 (fun H hp => ?_)
      refine W.widen (k := n + 1 - nS) (n := z + 3 - zS) (by omega) (by omega) ?_
      exact b_X6_step_51 hV hVs hs hVx X hX _ _ _ _ _ _ _ _ _ (by omega) (by omega) hp (lv_sub hl [0] rfl) hF
    · have hF := if_p c7 hF
      exact b_X6_step_21 hV hVs hs hVx X hX _ _ _ _ _ _ _ _ _ (by omega) (by omega) hp (lv_sub hl [1, 0] rfl) hF
def f_X6_step (V : Nat → Nat) (S : mSh) (M : mMm) (n z : Nat) (x0 : Nat) : Option ((Nat ⊕ Nat) × mSh × mMm × Nat × Nat) := (fb_X6_step_0 V S M n z x0)
theorem mn_X6_step {x0 : Nat} {r : Nat ⊕ Nat} {S' : mSh} {M' : mMm} {n' z' : Nat} {S : mSh} {M : mMm} {n z : Nat} (hF : f_X6_step V S M n z x0 = some (r, S', M', n', z')) : n ≤ n' ∧ z ≤ z' := by
  unfold f_X6_step at hF
  exact mn_X6_step_0 hF
theorem w_X6_step {x0 : Nat} {r : Nat ⊕ Nat} {S' : mSh} {M' : mMm} {n' z' : Nat} {S : mSh} {M : mMm} {n z : Nat} (hV : mV V n0 P) (hVs : mVs V n0 P) (hs : l.stackTraces = false) (hVx : mVx n0 P) (hF : f_X6_step V S M n z x0 = some (r, S', M', n', z')) : mXt l D n0 P yX6_step cX6_step 2 (some (.object "WindingSquare$Step")) 10 267 (n' - n) (z' - z) [.ref x0] S M n (moR r) S' M' n' := by
  refine m_ofX (by decide) (Nat.le_of_ble_eq_true rfl) (fun p e s m below meth c X hX hp ls hl => ?_)
  unfold f_X6_step at hF
  refine W.widen (k := n - n) (n := z - z) (by omega) (by omega) ?_
  exact b_X6_step_0 hV hVs hs hVx X hX _ _ _ _ _ _ _ _ (Nat.le_refl _) (Nat.le_refl _) hp hl hF
end
section
variable {l : Launch} {D : va_G} {n0 : Nat} {P : mP} {V : Nat → Nat} {p : Program} {e : Env} {s : State} {m : MethodId} {args : Array Value} {below : List Frame} {meth : Method} {c : Code}
abbrev Rm_X6_steps (mc ms : Nat) : Room := { frames := 11, cells := mc, slots := ms, locals := 288 }
def fb_X6_steps_74 (V : Nat → Nat) (k8 : mSh → mMm → Nat → Nat → Nat → Nat → Option ((Nat ⊕ Nat) × mSh × mMm × Nat × Nat)) (S : mSh) (M : mMm) (n z : Nat) (x0 : Nat) (x1 : Nat) (y0 : Int32) : Option ((Nat ⊕ Nat) × mSh × mMm × Nat × Nat) := (k8 S M n z x0 x1)
theorem mn_X6_steps_74 {r : Nat ⊕ Nat} {S' : mSh} {M' : mMm} {n' z' : Nat} (k8 : mSh → mMm → Nat → Nat → Nat → Nat → Option ((Nat ⊕ Nat) × mSh × mMm × Nat × Nat)) (hmk8 : ∀ {S : mSh} {M : mMm} {n z : Nat} {x0 : Nat} {x1 : Nat}, k8 S M n z x0 x1 = some (r, S', M', n', z') → n ≤ n' ∧ z ≤ z') : ∀ {S : mSh} {M : mMm} {n z : Nat} {x0 : Nat} {x1 : Nat} {y0 : Int32}, fb_X6_steps_74 V k8 S M n z x0 x1 y0 = some (r, S', M', n', z') → n ≤ n' ∧ z ≤ z' := by
  intro S M n z x0 x1 y0 hF
  unfold fb_X6_steps_74 at hF
  have h9 := hmk8 hF
  exact ⟨by omega, by omega⟩
theorem b_X6_steps_74 {r : Nat ⊕ Nat} {S' : mSh} {M' : mMm} {n' z' : Nat} {nS zS : Nat} (hV : mV V n0 P) (hVs : mVs V n0 P) (hs : l.stackTraces = false) (hVx : mVx n0 P) (X : mCx D n0 P p m c cX6_steps 2 s args yX6_steps.cls meth (some (.object "java/util/ArrayList"))) (hX : ∀ x ∈ c.exceptionTable.toList, False) (k8 : mSh → mMm → Nat → Nat → Nat → Nat → Option ((Nat ⊕ Nat) × mSh × mMm × Nat × Nat)) (hmk8 : ∀ {S : mSh} {M : mMm} {n z : Nat} {x0 : Nat} {x1 : Nat}, k8 S M n z x0 x1 = some (r, S', M', n', z') → n ≤ n' ∧ z ≤ z') (hk8 : ∀ (S : mSh) (M : mMm) (n z : Nat) (x0 : Nat) (x1 : Nat) (H : Heap) (locs : List Loc) (ls : Array Slot), nS ≤ n → zS ≤ z → mHp D n0 S M n s H locs → lv_has ls 2 [(0, .ref x0), (1, .ref x1)] → k8 S M n z x0 x1 = some (r, S', M', n', z') → W p l e (Rm_X6_steps (n' - nS) (z' - zS)) s m args below meth c H locs (n - nS) (z - zS) (mMX below D n0 (moR r) S' M' n' args s (n' - nS) (z' - zS)) (F0 m 8 ls [])) : ∀ (S : mSh) (M : mMm) (n z : Nat) (x0 : Nat) (x1 : Nat) (y0 : Int32) (H : Heap) (locs : List Loc) (ls : Array Slot), nS ≤ n → zS ≤ z → mHp D n0 S M n s H locs → lv_has ls 2 [(0, .ref x0), (1, .ref x1)] → fb_X6_steps_74 V k8 S M n z x0 x1 y0 = some (r, S', M', n', z') → W p l e (Rm_X6_steps (n' - nS) (z' - zS)) s m args below meth c H locs (n - nS) (z - zS) (mMX below D n0 (moR r) S' M' n' args s (n' - nS) (z' - zS)) (F0 m 74 ls [.int y0]) := by
  have hx := X.1.1
  have hb := X.1.2.1
  have hown := X.1.2.2.2.1
  have hts := X.1.2.2.2.2
  intro S M n z x0 x1 y0 H locs ls hn hz hp hl hF
  have hm0 := mn_X6_steps_74 _ hmk8 hF
  unfold fb_X6_steps_74 at hF
  refine lv_pop hx hb dX6_steps_74 rfl ?_
  refine lv_goto (tgt := 8) hx hb dX6_steps_75 (by decide) ?_
  exact hk8 _ _ _ _ _ _ _ _ _ (by omega) (by omega) hp (lv_sub hl [0, 1] rfl) hF
def fb_X6_steps_71 (V : Nat → Nat) (k8 : mSh → mMm → Nat → Nat → Nat → Nat → Option ((Nat ⊕ Nat) × mSh × mMm × Nat × Nat)) (S : mSh) (M : mMm) (n z : Nat) (x0 : Nat) (x1 : Nat) (y0 : Nat) (y1 : Nat) : Option ((Nat ⊕ Nat) × mSh × mMm × Nat × Nat) := gd ((S y1).1 = 15) (ob (f_J2_add V S M n z y1 y0) fun ⟨v37, S39, M38, n40, z41⟩ => (fb_X6_steps_74 V k8 S39 M38 n40 z41 x0 x1 v37))
theorem mn_X6_steps_71 {r : Nat ⊕ Nat} {S' : mSh} {M' : mMm} {n' z' : Nat} (k8 : mSh → mMm → Nat → Nat → Nat → Nat → Option ((Nat ⊕ Nat) × mSh × mMm × Nat × Nat)) (hmk8 : ∀ {S : mSh} {M : mMm} {n z : Nat} {x0 : Nat} {x1 : Nat}, k8 S M n z x0 x1 = some (r, S', M', n', z') → n ≤ n' ∧ z ≤ z') : ∀ {S : mSh} {M : mMm} {n z : Nat} {x0 : Nat} {x1 : Nat} {y0 : Nat} {y1 : Nat}, fb_X6_steps_71 V k8 S M n z x0 x1 y0 y1 = some (r, S', M', n', z') → n ≤ n' ∧ z ≤ z' := by
  intro S M n z x0 x1 y0 y1 hF
  unfold fb_X6_steps_71 at hF
  obtain ⟨g35, hF⟩ := gd_s hF
  obtain ⟨⟨v37, S39, M38, n40, z41⟩, e36, hF⟩ := ob_s hF
  have hc := mn_J2_add e36
  have h9 := (mn_X6_steps_74 (V := V) k8 hmk8) hF
  exact ⟨by omega, by omega⟩
theorem b_X6_steps_71 {r : Nat ⊕ Nat} {S' : mSh} {M' : mMm} {n' z' : Nat} {nS zS : Nat} (hV : mV V n0 P) (hVs : mVs V n0 P) (hs : l.stackTraces = false) (hVx : mVx n0 P) (X : mCx D n0 P p m c cX6_steps 2 s args yX6_steps.cls meth (some (.object "java/util/ArrayList"))) (hX : ∀ x ∈ c.exceptionTable.toList, False) (k8 : mSh → mMm → Nat → Nat → Nat → Nat → Option ((Nat ⊕ Nat) × mSh × mMm × Nat × Nat)) (hmk8 : ∀ {S : mSh} {M : mMm} {n z : Nat} {x0 : Nat} {x1 : Nat}, k8 S M n z x0 x1 = some (r, S', M', n', z') → n ≤ n' ∧ z ≤ z') (hk8 : ∀ (S : mSh) (M : mMm) (n z : Nat) (x0 : Nat) (x1 : Nat) (H : Heap) (locs : List Loc) (ls : Array Slot), nS ≤ n → zS ≤ z → mHp D n0 S M n s H locs → lv_has ls 2 [(0, .ref x0), (1, .ref x1)] → k8 S M n z x0 x1 = some (r, S', M', n', z') → W p l e (Rm_X6_steps (n' - nS) (z' - zS)) s m args below meth c H locs (n - nS) (z - zS) (mMX below D n0 (moR r) S' M' n' args s (n' - nS) (z' - zS)) (F0 m 8 ls [])) : ∀ (S : mSh) (M : mMm) (n z : Nat) (x0 : Nat) (x1 : Nat) (y0 : Nat) (y1 : Nat) (H : Heap) (locs : List Loc) (ls : Array Slot), nS ≤ n → zS ≤ z → mHp D n0 S M n s H locs → lv_has ls 2 [(0, .ref x0), (1, .ref x1)] → fb_X6_steps_71 V k8 S M n z x0 x1 y0 y1 = some (r, S', M', n', z') → W p l e (Rm_X6_steps (n' - nS) (z' - zS)) s m args below meth c H locs (n - nS) (z - zS) (mMX below D n0 (moR r) S' M' n' args s (n' - nS) (z' - zS)) (F0 m 71 ls [.ref y0, .ref y1]) := by
  have hx := X.1.1
  have hb := X.1.2.1
  have hown := X.1.2.2.2.1
  have hts := X.1.2.2.2.2
  intro S M n z x0 x1 y0 y1 H locs ls hn hz hp hl hF
  have hm0 := mn_X6_steps_71 _ hmk8 hF
  unfold fb_X6_steps_71 at hF
  obtain ⟨g35, hF⟩ := gd_s hF
  obtain ⟨⟨v37, S39, M38, n40, z41⟩, e36, hF⟩ := ob_s hF
  have hc := mn_J2_add e36
  have hm := (mn_X6_steps_74 (V := V) k8 hmk8) hF
  refine m_callV (As := [.ref y0]) (rest := []) X hp (w_J2_add hV e36) q915 q314 q315 q138 q316 1 rfl ds_J2_add ⟨Nat.le_of_ble_eq_true rfl, Nat.le_of_ble_eq_true rfl⟩ 15 (T := TJ2) (N := 3) rfl (by decide) g35 hl.1 rfl (Nat.le_of_ble_eq_true rfl) dX6_steps_71 ⟨by show _ ≤ n' - nS; omega, by show _ ≤ z' - zS; omega⟩ (fun H locs hp => ?_)
  refine W.widen (k := n40 - nS) (n := z41 - zS) (by omega) (by omega) ?_
  exact b_X6_steps_74 hV hVs hs hVx X hX k8 hmk8 hk8 _ _ _ _ _ _ _ _ _ _ (by omega) (by omega) hp (lv_sub hl [0, 1] rfl) hF
def fb_X6_steps_8 (V : Nat → Nat) : Nat → mSh → mMm → Nat → Nat → Nat → Nat → Option ((Nat ⊕ Nat) × mSh × mMm × Nat × Nat)
  | 0, _, _, _, _, _, _ => none
  | t + 1, S, M, n, z, x0, x1 => ob (rI S M x0 7 5) fun v7 => (if v7 = (59 : Int32) then ob (f_X6_next V S M x0) fun M12 => some (.inl x1, S, M12, n, z) else ob (rI S M x0 7 5) fun v13 => ob (f_X0_isIn v13 (16 : Int32) (20 : Int32)) fun v16 => (if v16 = 0 then ob (rI S M x0 7 4) fun v33 => some (.inr n, mSF S n, mMF M n (1 : Int32) v33, n + 1, z + 8) else gd ((S x1).1 = 15) (ob (f_J2_size S M x1) fun v20 => (if v20 = (12 : Int32) then ob (rI S M x0 7 4) fun v31 => some (.inr n, mSF S n, mMF M n (3 : Int32) v31, n + 1, z + 8) else ob (f_X6_step V S M n z x0) fun ⟨o28, S25, M24, n26, z27⟩ => xk o28 S25 M24 n26 z27 fun v23 => (fb_X6_steps_71 V (fb_X6_steps_8 V t) S25 M24 n26 z27 x0 x1 v23 x1)))))
theorem mn_X6_steps_8 {r : Nat ⊕ Nat} {S' : mSh} {M' : mMm} {n' z' : Nat} : ∀ {t : Nat} {S : mSh} {M : mMm} {n z : Nat} {x0 : Nat} {x1 : Nat}, fb_X6_steps_8 V t S M n z x0 x1 = some (r, S', M', n', z') → n ≤ n' ∧ z ≤ z' := by
  intro t
  induction t with
  | zero =>
    intro S M n z x0 x1 hF
    have hF : none = some (r, S', M', n', z') := hF
    cases hF
  | succ t ihm =>
    intro S M n z x0 x1 hF
    rw [fb_X6_steps_8] at hF
    obtain ⟨v7, e8, hF⟩ := ob_s hF
    rcases Decidable.em (v7 = (59 : Int32)) with c9 | c9
    · have hF := if_p c9 hF
      obtain ⟨M12, e10, hF⟩ := ob_s hF
      cases hF
      exact ⟨Nat.le_refl _, Nat.le_refl _⟩
    · have hF := if_n c9 hF
      obtain ⟨v13, e14, hF⟩ := ob_s hF
      obtain ⟨v16, e15, hF⟩ := ob_s hF
      rcases (Decidable.em (v16 = 0)).symm with c17 | c17
      · have hF := if_n c17 hF
        obtain ⟨g18, hF⟩ := gd_s hF
        obtain ⟨v20, e19, hF⟩ := ob_s hF
        rcases (Decidable.em (v20 = (12 : Int32))).symm with c21 | c21
        · have hF := if_n c21 hF
          obtain ⟨⟨o28, S25, M24, n26, z27⟩, e22, hF⟩ := ob_s hF
          have hc := mn_X6_step e22
          rcases xk_s hF with ⟨v23, h29, hF⟩ | ⟨q30, h29, hF⟩
          · subst h29
            have h9 := (mn_X6_steps_71 (V := V) (fb_X6_steps_8 V t) @ihm) hF
            exact ⟨by omega, by omega⟩
          · subst h29
            cases hF
            exact ⟨by omega, by omega⟩
        · have hF := if_p c21 hF
          obtain ⟨v31, e32, hF⟩ := ob_s hF
          cases hF
          exact ⟨by omega, by omega⟩
      · have hF := if_p c17 hF
        obtain ⟨v33, e34, hF⟩ := ob_s hF
        cases hF
        exact ⟨by omega, by omega⟩
theorem b_X6_steps_8 {r : Nat ⊕ Nat} {S' : mSh} {M' : mMm} {n' z' : Nat} {nS zS : Nat} (hV : mV V n0 P) (hVs : mVs V n0 P) (hs : l.stackTraces = false) (hVx : mVx n0 P) (X : mCx D n0 P p m c cX6_steps 2 s args yX6_steps.cls meth (some (.object "java/util/ArrayList"))) (hX : ∀ x ∈ c.exceptionTable.toList, False) : ∀ t : Nat, ∀ (S : mSh) (M : mMm) (n z : Nat) (x0 : Nat) (x1 : Nat) (H : Heap) (locs : List Loc) (ls : Array Slot), nS ≤ n → zS ≤ z → mHp D n0 S M n s H locs → lv_has ls 2 [(0, .ref x0), (1, .ref x1)] → fb_X6_steps_8 V t S M n z x0 x1 = some (r, S', M', n', z') → W p l e (Rm_X6_steps (n' - nS) (z' - zS)) s m args below meth c H locs (n - nS) (z - zS) (mMX below D n0 (moR r) S' M' n' args s (n' - nS) (z' - zS)) (F0 m 8 ls []) := by
  have hx := X.1.1
  have hb := X.1.2.1
  have hown := X.1.2.2.2.1
  have hts := X.1.2.2.2.2
  intro t
  induction t with
  | zero =>
    intro S M n z x0 x1 H locs ls hn hz hp hl hF
    have hF : none = some (r, S', M', n', z') := hF
    cases hF
  | succ t ih =>
    intro S M n z x0 x1 H locs ls hn hz hp hl hF
    have ihm := @mn_X6_steps_8 V r S' M' n' z' t
    have hm0 := mn_X6_steps_8 hF
    rw [fb_X6_steps_8] at hF
    refine lv_aload_n hx hb dX6_steps_8 rfl (lv_at hl 0 rfl) ?_
    obtain ⟨v7, e8, hF⟩ := ob_s hF
    refine m_getI X hp e8 kX6 (Nat.le_of_ble_eq_true rfl) q590 dX6_steps_9 ?_
    refine lv_bipush (v := 59) hx hb dX6_steps_12 (by decide) ?_
    refine lv_icmp_eq (tgt := 78) hx hb dX6_steps_14 (by decide) (fun c9 => ?_) (fun c9 => ?_)
    · have hF := if_p c9 hF
      refine lv_aload_n hx hb dX6_steps_78 rfl (lv_at hl 0 rfl) ?_
      obtain ⟨M12, e10, hF⟩ := ob_s hF
      refine m_callV (As := []) (rest := []) X hp (w_X6_next hVs e10) q621 q623 qs5 q148 q624 0 rfl ds_X6_next ⟨Nat.le_of_ble_eq_true rfl, Nat.le_of_ble_eq_true rfl⟩ 7 (T := TX6) (N := 10) rfl (by decide) (rI_s e8).1 hl.1 rfl (Nat.le_of_ble_eq_true rfl) dX6_steps_79 ⟨by show _ + 0 ≤ n' - nS; omega, by show _ + 0 ≤ z' - zS; omega⟩ (fun H locs hp => ?_)
      refine lv_aload_n hx hb dX6_steps_82 rfl (lv_at hl 1 rfl) ?_
      cases hF
      exact xm_ret (m_aret X hp (Or.inl ⟨_, rfl⟩) dX6_steps_83)
    · have hF := if_n c9 hF
      refine lv_aload_n hx hb dX6_steps_17 rfl (lv_at hl 0 rfl) ?_
      obtain ⟨v13, e14, hF⟩ := ob_s hF
      refine m_getI X hp e14 kX6 (Nat.le_of_ble_eq_true rfl) q590 dX6_steps_18 ?_
      refine lv_bipush (v := 16) hx hb dX6_steps_21 (by decide) ?_
      refine lv_bipush (v := 20) hx hb dX6_steps_23 (by decide) ?_
      obtain ⟨v16, e15, hF⟩ := ob_s hF
      refine m_callSN (As := [.int v13, .int (16 : Int32), .int (20 : Int32)]) (rest := []) X hp (w_X0_isIn e15) q633 q566 q132 q567 3 rfl ds_X0_isIn ⟨Nat.le_of_ble_eq_true rfl, Nat.le_of_ble_eq_true rfl⟩ hl.1 rfl (Nat.le_of_ble_eq_true rfl) dX6_steps_25 ⟨by show _ + 0 ≤ n' - nS; omega, by show _ + 0 ≤ z' - zS; omega⟩ (fun H locs hp => ?_)
      refine lv_if_ne (tgt := 44) hx hb dX6_steps_28 (by decide) (fun c17 => ?_) (fun c17 => ?_)
      · have hF := if_n c17 hF
        refine lv_aload_n hx hb dX6_steps_44 rfl (lv_at hl 1 rfl) ?_
        obtain ⟨g18, hF⟩ := gd_s hF
        obtain ⟨v20, e19, hF⟩ := ob_s hF
        refine m_callV (As := []) (rest := []) X hp (w_J2_size e19) q807 q808 q809 q138 q810 0 rfl ds_J2_size ⟨Nat.le_of_ble_eq_true rfl, Nat.le_of_ble_eq_true rfl⟩ 15 (T := TJ2) (N := 3) rfl (by decide) g18 hl.1 rfl (Nat.le_of_ble_eq_true rfl) dX6_steps_45 ⟨by show _ + 0 ≤ n' - nS; omega, by show _ + 0 ≤ z' - zS; omega⟩ (fun H locs hp => ?_)
        refine lv_bipush (v := 12) hx hb dX6_steps_48 (by decide) ?_
        refine lv_icmp_ne (tgt := 66) hx hb dX6_steps_50 (by decide) (fun c21 => ?_) (fun c21 => ?_)
        · have hF := if_n c21 hF
          refine lv_aload_n hx hb dX6_steps_66 rfl (lv_at hl 1 rfl) ?_
          refine lv_aload_n hx hb dX6_steps_67 rfl (lv_at hl 0 rfl) ?_
          obtain ⟨⟨o28, S25, M24, n26, z27⟩, e22, hF⟩ := ob_s hF
          have hc := mn_X6_step e22
          rcases xk_s hF with ⟨v23, h29, hF⟩ | ⟨q30, h29, hF⟩
          · subst h29
            have hm := (mn_X6_steps_71 (V := V) (fb_X6_steps_8 V t) @ihm) hF
            refine xm_callV (As := []) (rest := [.ref x1]) X hp (w_X6_step hV hVs hs hVx e22) q943 q945 qs28 q148 q946 0 rfl ds_X6_step ⟨Nat.le_of_ble_eq_true rfl, Nat.le_of_ble_eq_true rfl⟩ 7 (T := TX6) (N := 10) rfl (by decide) (rI_s e14).1 hl.1 rfl (Nat.le_of_ble_eq_true rfl) dX6_steps_68 ⟨by show _ ≤ n' - nS; omega, by show _ ≤ z' - zS; omega⟩ (fun H locs hp => ?_)
            refine W.widen (k := n26 - nS) (n := z27 - zS) (by omega) (by omega) ?_
            exact b_X6_steps_71 hV hVs hs hVx X hX (fb_X6_steps_8 V t) @ihm ih _ _ _ _ _ _ _ _ _ _ _ (by omega) (by omega) hp (lv_sub hl [0, 1] rfl) hF
          · subst h29
            cases hF
            exact xm_callVT (As := []) (rest := [.ref x1]) X hX hp (w_X6_step hV hVs hs hVx e22) q943 q945 qs28 q148 q946 0 rfl ds_X6_step ⟨Nat.le_of_ble_eq_true rfl, Nat.le_of_ble_eq_true rfl⟩ 7 (T := TX6) (N := 10) rfl (by decide) (rI_s e14).1 hl.1 rfl (Nat.le_of_ble_eq_true rfl) dX6_steps_68 ⟨by show _ ≤ n' - nS; omega, by show _ ≤ z' - zS; omega⟩ ⟨by omega, by omega⟩
        · have hF := if_p c21 hF
          obtain ⟨v31, e32, hF⟩ := ob_s hF
          cases hF
          exact xm_throw (rest := []) (kd := 3) X hX hs hVx hp (lv_at hl 0 rfl) hl.1 (by decide) e32 dX6_steps_53 dX6_steps_56 dX6_steps_57 dX6_steps_58 dX6_steps_59 dX6_steps_62 dX6_steps_65 (Nat.le_of_ble_eq_true rfl) ⟨Nat.le_of_ble_eq_true rfl, Nat.le_of_ble_eq_true rfl⟩ ⟨by show _ ≤ n + 1 - nS; omega, by show _ ≤ z + 8 - zS; omega⟩ ⟨by omega, by omega⟩
      · have hF := if_p c17 hF
        obtain ⟨v33, e34, hF⟩ := ob_s hF
        cases hF
        exact xm_throw (rest := []) (kd := 1) X hX hs hVx hp (lv_at hl 0 rfl) hl.1 (by decide) e34 dX6_steps_31 dX6_steps_34 dX6_steps_35 dX6_steps_36 dX6_steps_37 dX6_steps_40 dX6_steps_43 (Nat.le_of_ble_eq_true rfl) ⟨Nat.le_of_ble_eq_true rfl, Nat.le_of_ble_eq_true rfl⟩ ⟨by show _ ≤ n + 1 - nS; omega, by show _ ≤ z + 8 - zS; omega⟩ ⟨by omega, by omega⟩
def fb_X6_steps_7 (V : Nat → Nat) (S : mSh) (M : mMm) (n z : Nat) (x0 : Nat) (y0 : Nat) : Option ((Nat ⊕ Nat) × mSh × mMm × Nat × Nat) := (fb_X6_steps_8 V FU S M n z x0 y0)
theorem mn_X6_steps_7 {r : Nat ⊕ Nat} {S' : mSh} {M' : mMm} {n' z' : Nat} : ∀ {S : mSh} {M : mMm} {n z : Nat} {x0 : Nat} {y0 : Nat}, fb_X6_steps_7 V S M n z x0 y0 = some (r, S', M', n', z') → n ≤ n' ∧ z ≤ z' := by
  intro S M n z x0 y0 hF
  unfold fb_X6_steps_7 at hF
  have h9 := (mn_X6_steps_8 (V := V)) hF
  exact ⟨by omega, by omega⟩
theorem b_X6_steps_7 {r : Nat ⊕ Nat} {S' : mSh} {M' : mMm} {n' z' : Nat} {nS zS : Nat} (hV : mV V n0 P) (hVs : mVs V n0 P) (hs : l.stackTraces = false) (hVx : mVx n0 P) (X : mCx D n0 P p m c cX6_steps 2 s args yX6_steps.cls meth (some (.object "java/util/ArrayList"))) (hX : ∀ x ∈ c.exceptionTable.toList, False) : ∀ (S : mSh) (M : mMm) (n z : Nat) (x0 : Nat) (y0 : Nat) (H : Heap) (locs : List Loc) (ls : Array Slot), nS ≤ n → zS ≤ z → mHp D n0 S M n s H locs → lv_has ls 2 [(0, .ref x0)] → fb_X6_steps_7 V S M n z x0 y0 = some (r, S', M', n', z') → W p l e (Rm_X6_steps (n' - nS) (z' - zS)) s m args below meth c H locs (n - nS) (z - zS) (mMX below D n0 (moR r) S' M' n' args s (n' - nS) (z' - zS)) (F0 m 7 ls [.ref y0]) := by
  have hx := X.1.1
  have hb := X.1.2.1
  have hown := X.1.2.2.2.1
  have hts := X.1.2.2.2.2
  intro S M n z x0 y0 H locs ls hn hz hp hl hF
  have hm0 := mn_X6_steps_7 hF
  unfold fb_X6_steps_7 at hF
  refine lv_astore_n (lv' := [(1, .ref y0), (0, .ref x0)]) hx hb dX6_steps_7 rfl hl (by decide) rfl (fun ls hl => ?_)
  exact b_X6_steps_8 hV hVs hs hVx X hX _ _ _ _ _ _ _ _ _ _ (by omega) (by omega) hp (lv_sub hl [1, 0] rfl) hF
def fb_X6_steps_3 (V : Nat → Nat) (S : mSh) (M : mMm) (n z : Nat) (x0 : Nat) (y0 : Nat) : Option ((Nat ⊕ Nat) × mSh × mMm × Nat × Nat) := ob (f_J2_init V S M n z y0) fun ⟨S4, M3, n5, z6⟩ => (fb_X6_steps_7 V S4 M3 n5 z6 x0 y0)
theorem mn_X6_steps_3 {r : Nat ⊕ Nat} {S' : mSh} {M' : mMm} {n' z' : Nat} : ∀ {S : mSh} {M : mMm} {n z : Nat} {x0 : Nat} {y0 : Nat}, fb_X6_steps_3 V S M n z x0 y0 = some (r, S', M', n', z') → n ≤ n' ∧ z ≤ z' := by
  intro S M n z x0 y0 hF
  unfold fb_X6_steps_3 at hF
  obtain ⟨⟨S4, M3, n5, z6⟩, e1, hF⟩ := ob_s hF
  have hc := mn_J2_init e1
  have h9 := (mn_X6_steps_7 (V := V)) hF
  exact ⟨by omega, by omega⟩
theorem b_X6_steps_3 {r : Nat ⊕ Nat} {S' : mSh} {M' : mMm} {n' z' : Nat} {nS zS : Nat} (hV : mV V n0 P) (hVs : mVs V n0 P) (hs : l.stackTraces = false) (hVx : mVx n0 P) (X : mCx D n0 P p m c cX6_steps 2 s args yX6_steps.cls meth (some (.object "java/util/ArrayList"))) (hX : ∀ x ∈ c.exceptionTable.toList, False) : ∀ (S : mSh) (M : mMm) (n z : Nat) (x0 : Nat) (y0 : Nat) (H : Heap) (locs : List Loc) (ls : Array Slot), nS ≤ n → zS ≤ z → mHp D n0 S M n s H locs → lv_has ls 2 [(0, .ref x0)] → fb_X6_steps_3 V S M n z x0 y0 = some (r, S', M', n', z') → W p l e (Rm_X6_steps (n' - nS) (z' - zS)) s m args below meth c H locs (n - nS) (z - zS) (mMX below D n0 (moR r) S' M' n' args s (n' - nS) (z' - zS)) (F0 m 3 ls [.ref y0]) := by
  have hx := X.1.1
  have hb := X.1.2.1
  have hown := X.1.2.2.2.1
  have hts := X.1.2.2.2.2
  intro S M n z x0 y0 H locs ls hn hz hp hl hF
  have hm0 := mn_X6_steps_3 hF
  unfold fb_X6_steps_3 at hF
  refine lv_dup hx hb dX6_steps_3 rfl ?_
  obtain ⟨⟨S4, M3, n5, z6⟩, e1, hF⟩ := ob_s hF
  have hc := mn_J2_init e1
  have hm := (mn_X6_steps_7 (V := V)) hF
  refine m_callI (As := []) (rest := [.ref y0]) X hp (w_J2_init hV e1) q584 q223 q138 q224 rfl 0 rfl ds_J2_init ⟨Nat.le_of_ble_eq_true rfl, Nat.le_of_ble_eq_true rfl⟩ hl.1 rfl (Nat.le_of_ble_eq_true rfl) dX6_steps_4 ⟨by show _ ≤ n' - nS; omega, by show _ ≤ z' - zS; omega⟩ (fun H locs hp => ?_)
  refine W.widen (k := n5 - nS) (n := z6 - zS) (by omega) (by omega) ?_
  exact b_X6_steps_7 hV hVs hs hVx X hX _ _ _ _ _ _ _ _ _ (by omega) (by omega) hp (lv_sub hl [0] rfl) hF
def fb_X6_steps_0 (V : Nat → Nat) (S : mSh) (M : mMm) (n z : Nat) (x0 : Nat) : Option ((Nat ⊕ Nat) × mSh × mMm × Nat × Nat) := (fb_X6_steps_3 V (mS1 S n (15, 0)) (mM1 M n fun k => defaultValue (tyJ2 k)) (n + 1) (z + 3) x0 n)
theorem mn_X6_steps_0 {r : Nat ⊕ Nat} {S' : mSh} {M' : mMm} {n' z' : Nat} : ∀ {S : mSh} {M : mMm} {n z : Nat} {x0 : Nat}, fb_X6_steps_0 V S M n z x0 = some (r, S', M', n', z') → n ≤ n' ∧ z ≤ z' := by
  intro S M n z x0 hF
  unfold fb_X6_steps_0 at hF
  have h9 := (mn_X6_steps_3 (V := V)) hF
  exact ⟨by omega, by omega⟩
theorem b_X6_steps_0 {r : Nat ⊕ Nat} {S' : mSh} {M' : mMm} {n' z' : Nat} {nS zS : Nat} (hV : mV V n0 P) (hVs : mVs V n0 P) (hs : l.stackTraces = false) (hVx : mVx n0 P) (X : mCx D n0 P p m c cX6_steps 2 s args yX6_steps.cls meth (some (.object "java/util/ArrayList"))) (hX : ∀ x ∈ c.exceptionTable.toList, False) : ∀ (S : mSh) (M : mMm) (n z : Nat) (x0 : Nat) (H : Heap) (locs : List Loc) (ls : Array Slot), nS ≤ n → zS ≤ z → mHp D n0 S M n s H locs → lv_has ls 2 [(0, .ref x0)] → fb_X6_steps_0 V S M n z x0 = some (r, S', M', n', z') → W p l e (Rm_X6_steps (n' - nS) (z' - zS)) s m args below meth c H locs (n - nS) (z - zS) (mMX below D n0 (moR r) S' M' n' args s (n' - nS) (z' - zS)) (F0 m 0 ls []) := by
  have hx := X.1.1
  have hb := X.1.2.1
  have hown := X.1.2.2.2.1
  have hts := X.1.2.2.2.2
  intro S M n z x0 H locs ls hn hz hp hl hF
  have hm0 := mn_X6_steps_0 hF
  unfold fb_X6_steps_0 at hF
  have hm := (mn_X6_steps_3 (V := V)) hF
  refine m_new X hp kJ2 q583 q221 q138 (by show _ ≤ n' - nS; omega) (by show _ ≤ z' - zS; omega) dX6_steps_0 (fun H hp => ?_)
  refine W.widen (k := n + 1 - nS) (n := z + 3 - zS) (by omega) (by omega) ?_
  exact b_X6_steps_3 hV hVs hs hVx X hX _ _ _ _ _ _ _ _ _ (by omega) (by omega) hp (lv_sub hl [0] rfl) hF
def f_X6_steps (V : Nat → Nat) (S : mSh) (M : mMm) (n z : Nat) (x0 : Nat) : Option ((Nat ⊕ Nat) × mSh × mMm × Nat × Nat) := (fb_X6_steps_0 V S M n z x0)
theorem mn_X6_steps {x0 : Nat} {r : Nat ⊕ Nat} {S' : mSh} {M' : mMm} {n' z' : Nat} {S : mSh} {M : mMm} {n z : Nat} (hF : f_X6_steps V S M n z x0 = some (r, S', M', n', z')) : n ≤ n' ∧ z ≤ z' := by
  unfold f_X6_steps at hF
  exact mn_X6_steps_0 hF
theorem w_X6_steps {x0 : Nat} {r : Nat ⊕ Nat} {S' : mSh} {M' : mMm} {n' z' : Nat} {S : mSh} {M : mMm} {n z : Nat} (hV : mV V n0 P) (hVs : mVs V n0 P) (hs : l.stackTraces = false) (hVx : mVx n0 P) (hF : f_X6_steps V S M n z x0 = some (r, S', M', n', z')) : mXt l D n0 P yX6_steps cX6_steps 2 (some (.object "java/util/ArrayList")) 11 288 (n' - n) (z' - z) [.ref x0] S M n (moR r) S' M' n' := by
  refine m_ofX (by decide) (Nat.le_of_ble_eq_true rfl) (fun p e s m below meth c X hX hp ls hl => ?_)
  unfold f_X6_steps at hF
  refine W.widen (k := n - n) (n := z - z) (by omega) (by omega) ?_
  exact b_X6_steps_0 hV hVs hs hVx X hX _ _ _ _ _ _ _ _ (Nat.le_refl _) (Nat.le_refl _) hp hl hF
end
