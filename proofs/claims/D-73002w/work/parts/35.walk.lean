set_option maxRecDepth 100000
section
variable {l : Launch} {D : va_G} {n0 : Nat} {P : mP} {S : mSh} {M : mMm} {n : Nat} {p : Program} {e : Env} {s : State} {m : MethodId} {args : Array Value} {below : List Frame} {meth : Method} {c : Code}
abbrev Rm_X5_inside : Room := { frames := 1, cells := 0, slots := 0, locals := 22 }
def fb_X5_inside_4 (S : mSh) (M : mMm) : Nat → Nat → Int32 → Int32 → Option Int32
  | 0, _, _, _ => none
  | t + 1, x0, x1, x2 => ob (rR S M x0 6 1) fun v5 => ob (aI S M v5 100 (940 : Int32)) fun v7 => (if v7 ≤ x2 then some x1 else ob (f_X5_has S M x0 x2 (1 : Int32)) fun v11 => nm ((x1 + v11)) fun v12 => nm (x2 + (1 : Int32)) fun v14 => (fb_X5_inside_4 S M t x0 v12 v14))
theorem b_X5_inside_4 {r : Int32} (X : mCx D n0 P p m c cX5_inside 3 s args yX5_inside.cls meth (some .int)) : ∀ t : Nat, ∀ (x0 : Nat) (x1 : Int32) (x2 : Int32) (H : Heap) (locs : List Loc) (ls : Array Slot), mHp D n0 S M n s H locs → lv_has ls 3 [(0, .ref x0), (1, .int x1), (2, .int x2)] → fb_X5_inside_4 S M t x0 x1 x2 = some r → W p l e Rm_X5_inside s m args below meth c H locs 0 0 (MQ below (mQ D n0 (some (.int r)) S M n) args s 0 0 (mA n0)) (F0 m 4 ls []) := by
  have hx := X.1.1
  have hb := X.1.2.1
  have hown := X.1.2.2.2.1
  have hts := X.1.2.2.2.2
  intro t
  induction t with
  | zero =>
    intro x0 x1 x2 H locs ls hp hl hF
    have hF : none = some r := hF
    cases hF
  | succ t ih =>
    intro x0 x1 x2 H locs ls hp hl hF
    rw [fb_X5_inside_4] at hF
    refine lv_iload_n hx hb dX5_inside_4 rfl (lv_at hl 2 rfl) ?_
    refine lv_aload_n hx hb dX5_inside_5 rfl (lv_at hl 0 rfl) ?_
    obtain ⟨v5, e6, hF⟩ := ob_s hF
    refine m_getR X hp e6 kX5 (Nat.le_of_ble_eq_true rfl) q1460 dX5_inside_6 ?_
    refine lv_sipush (v := 940) hx hb dX5_inside_9 (by decide) ?_
    obtain ⟨v7, e8, hF⟩ := ob_s hF
    refine m_iaI X hp e8 dX5_inside_12 ?_
    refine lv_icmp_ge (tgt := 31) hx hb dX5_inside_13 (by decide) (fun c9 => ?_) (fun c9 => ?_)
    · have hF := if_p c9 hF
      refine lv_iload_n hx hb dX5_inside_31 rfl (lv_at hl 1 rfl) ?_
      cases hF
      exact m_iret X hp dX5_inside_32
    · have hF := if_n c9 hF
      refine lv_iload_n hx hb dX5_inside_16 rfl (lv_at hl 1 rfl) ?_
      refine lv_aload_n hx hb dX5_inside_17 rfl (lv_at hl 0 rfl) ?_
      refine lv_iload_n hx hb dX5_inside_18 rfl (lv_at hl 2 rfl) ?_
      refine lv_iconst (v := 1) hx hb dX5_inside_19 (by decide) ?_
      obtain ⟨v11, e10, hF⟩ := ob_s hF
      refine m_callV (As := [.int x2, .int (1 : Int32)]) (rest := [.int x1]) X hp (w_X5_has e10) q1727 q1729 qs89 q144 q1730 2 rfl ds_X5_has ⟨Nat.le_of_ble_eq_true rfl, Nat.le_of_ble_eq_true rfl⟩ 6 (T := TX5) (N := 40) rfl (by decide) (rR_s e6).1 hl.1 rfl (Nat.le_of_ble_eq_true rfl) dX5_inside_20 ⟨Nat.le_refl 0, Nat.le_refl 0⟩ (fun H locs hp => ?_)
      refine lv_iadd hx hb dX5_inside_23 ?_
      refine lv_topi (fun v12 ev13 => ?_)
      have hF := nm_s hF ev13
      refine lv_istore_n (lv' := [(1, .int v12), (0, .ref x0), (2, .int x2)]) hx hb dX5_inside_24 rfl hl (by decide) rfl (fun ls hl => ?_)
      obtain ⟨v14, ev15⟩ : ∃ y : Int32, y = x2 + (1 : Int32) := ⟨_, rfl⟩
      have hF := nm_s hF ev15
      refine lv_iinc (v := v14) (lv' := [(2, .int v14), (1, .int v12), (0, .ref x0)]) hx hb dX5_inside_25 hl (k := 2) rfl (by rw [ev15]; rfl) (by decide) rfl (fun ls hl => ?_)
      refine lv_goto (tgt := 4) hx hb dX5_inside_28 (by decide) ?_
      exact ih _ _ _ _ _ _ hp (lv_sub hl [2, 1, 0] rfl) hF
def f_X5_inside (S : mSh) (M : mMm) (x0 : Nat) : Option Int32 := nm ((0 : Int32)) fun v1 => nm ((0 : Int32)) fun v3 => (fb_X5_inside_4 S M FU x0 v1 v3)
theorem w_X5_inside {x0 : Nat} {r : Int32} (hF : f_X5_inside S M x0 = some r) : mCt l D n0 P yX5_inside cX5_inside 3 (some .int) 1 22 0 0 [.ref x0] S M n (some (.int r)) S M n := by
  refine m_ofW (by decide) (Nat.le_of_ble_eq_true rfl) (fun p e s m below meth c X hnm hp ls hl => ?_)
  have hx := X.1.1
  have hb := X.1.2.1
  have hown := X.1.2.2.2.1
  have hts := X.1.2.2.2.2
  have hl : lv_has ls 3 [(0, .ref x0)] := hl
  unfold f_X5_inside at hF
  refine lv_iconst (v := 0) hx hb dX5_inside_0 (by decide) ?_
  refine lv_topi (fun v1 ev2 => ?_)
  have hF := nm_s hF ev2
  refine lv_istore_n (lv' := [(1, .int v1), (0, .ref x0)]) hx hb dX5_inside_1 rfl hl (by decide) rfl (fun ls hl => ?_)
  refine lv_iconst (v := 0) hx hb dX5_inside_2 (by decide) ?_
  refine lv_topi (fun v3 ev4 => ?_)
  have hF := nm_s hF ev4
  refine lv_istore_n (lv' := [(2, .int v3), (1, .int v1), (0, .ref x0)]) hx hb dX5_inside_3 rfl hl (by decide) rfl (fun ls hl => ?_)
  exact b_X5_inside_4 X _ _ _ _ _ _ _ hp (lv_sub hl [2, 1, 0] rfl) hF
end
section
variable {l : Launch} {D : va_G} {n0 : Nat} {P : mP} {S : mSh} {M : mMm} {n : Nat} {p : Program} {e : Env} {s : State} {m : MethodId} {args : Array Value} {below : List Frame} {meth : Method} {c : Code}
abbrev Rm_X5_watchNow : Room := { frames := 0, cells := 0, slots := 0, locals := 0 }
def fb_X5_watchNow_54 (S : mSh) (M : mMm) (k4 : Nat → Int32 → Int32 → Option Int32) (x0 : Nat) (x1 : Int32) (x2 : Int32) : Option Int32 := nm (x2 + (1 : Int32)) fun v23 => (k4 x0 x1 v23)
theorem b_X5_watchNow_54 {r : Int32} (X : mCx D n0 P p m c cX5_watchNow 3 s args yX5_watchNow.cls meth (some .int)) (k4 : Nat → Int32 → Int32 → Option Int32) (hk4 : ∀ (x0 : Nat) (x1 : Int32) (x2 : Int32) (H : Heap) (locs : List Loc) (ls : Array Slot), mHp D n0 S M n s H locs → lv_has ls 3 [(0, .ref x0), (1, .int x1), (2, .int x2)] → k4 x0 x1 x2 = some r → W p l e Rm_X5_watchNow s m args below meth c H locs 0 0 (MQ below (mQ D n0 (some (.int r)) S M n) args s 0 0 (mA n0)) (F0 m 4 ls [])) : ∀ (x0 : Nat) (x1 : Int32) (x2 : Int32) (H : Heap) (locs : List Loc) (ls : Array Slot), mHp D n0 S M n s H locs → lv_has ls 3 [(0, .ref x0), (1, .int x1), (2, .int x2)] → fb_X5_watchNow_54 S M k4 x0 x1 x2 = some r → W p l e Rm_X5_watchNow s m args below meth c H locs 0 0 (MQ below (mQ D n0 (some (.int r)) S M n) args s 0 0 (mA n0)) (F0 m 54 ls []) := by
  have hx := X.1.1
  have hb := X.1.2.1
  have hown := X.1.2.2.2.1
  have hts := X.1.2.2.2.2
  intro x0 x1 x2 H locs ls hp hl hF
  unfold fb_X5_watchNow_54 at hF
  obtain ⟨v23, ev24⟩ : ∃ y : Int32, y = x2 + (1 : Int32) := ⟨_, rfl⟩
  have hF := nm_s hF ev24
  refine lv_iinc (v := v23) (lv' := [(2, .int v23), (0, .ref x0), (1, .int x1)]) hx hb dX5_watchNow_54 hl (k := 2) rfl (by rw [ev24]; rfl) (by decide) rfl (fun ls hl => ?_)
  refine lv_goto (tgt := 4) hx hb dX5_watchNow_57 (by decide) ?_
  exact hk4 _ _ _ _ _ _ hp (lv_sub hl [1, 2, 0] rfl) hF
def fb_X5_watchNow_4 (S : mSh) (M : mMm) : Nat → Nat → Int32 → Int32 → Option Int32
  | 0, _, _, _ => none
  | t + 1, x0, x1, x2 => ob (rR S M x0 6 1) fun v5 => ob (aI S M v5 100 (944 : Int32)) fun v7 => (if v7 ≤ x2 then some x1 else ob (rR S M x0 6 1) fun v10 => ob (aI S M v10 100 ((2325 : Int32) + ((2 : Int32) * x2))) fun v12 => ob (rR S M x0 6 1) fun v14 => ob (aI S M v14 100 (936 : Int32)) fun v16 => (if v16 < v12 then (fb_X5_watchNow_54 S M (fb_X5_watchNow_4 S M t) x0 x1 x2) else ob (rR S M x0 6 1) fun v19 => ob (aI S M v19 100 (((2325 : Int32) + ((2 : Int32) * x2)) + (1 : Int32))) fun v21 => (fb_X5_watchNow_54 S M (fb_X5_watchNow_4 S M t) x0 v21 x2)))
theorem b_X5_watchNow_4 {r : Int32} (X : mCx D n0 P p m c cX5_watchNow 3 s args yX5_watchNow.cls meth (some .int)) : ∀ t : Nat, ∀ (x0 : Nat) (x1 : Int32) (x2 : Int32) (H : Heap) (locs : List Loc) (ls : Array Slot), mHp D n0 S M n s H locs → lv_has ls 3 [(0, .ref x0), (1, .int x1), (2, .int x2)] → fb_X5_watchNow_4 S M t x0 x1 x2 = some r → W p l e Rm_X5_watchNow s m args below meth c H locs 0 0 (MQ below (mQ D n0 (some (.int r)) S M n) args s 0 0 (mA n0)) (F0 m 4 ls []) := by
  have hx := X.1.1
  have hb := X.1.2.1
  have hown := X.1.2.2.2.1
  have hts := X.1.2.2.2.2
  intro t
  induction t with
  | zero =>
    intro x0 x1 x2 H locs ls hp hl hF
    have hF : none = some r := hF
    cases hF
  | succ t ih =>
    intro x0 x1 x2 H locs ls hp hl hF
    rw [fb_X5_watchNow_4] at hF
    refine lv_iload_n hx hb dX5_watchNow_4 rfl (lv_at hl 2 rfl) ?_
    refine lv_aload_n hx hb dX5_watchNow_5 rfl (lv_at hl 0 rfl) ?_
    obtain ⟨v5, e6, hF⟩ := ob_s hF
    refine m_getR X hp e6 kX5 (Nat.le_of_ble_eq_true rfl) q1460 dX5_watchNow_6 ?_
    refine lv_sipush (v := 944) hx hb dX5_watchNow_9 (by decide) ?_
    obtain ⟨v7, e8, hF⟩ := ob_s hF
    refine m_iaI X hp e8 dX5_watchNow_12 ?_
    refine lv_icmp_ge (tgt := 60) hx hb dX5_watchNow_13 (by decide) (fun c9 => ?_) (fun c9 => ?_)
    · have hF := if_p c9 hF
      refine lv_iload_n hx hb dX5_watchNow_60 rfl (lv_at hl 1 rfl) ?_
      cases hF
      exact m_iret X hp dX5_watchNow_61
    · have hF := if_n c9 hF
      refine lv_aload_n hx hb dX5_watchNow_16 rfl (lv_at hl 0 rfl) ?_
      obtain ⟨v10, e11, hF⟩ := ob_s hF
      refine m_getR X hp e11 kX5 (Nat.le_of_ble_eq_true rfl) q1460 dX5_watchNow_17 ?_
      refine lv_sipush (v := 2325) hx hb dX5_watchNow_20 (by decide) ?_
      refine lv_iconst (v := 2) hx hb dX5_watchNow_23 (by decide) ?_
      refine lv_iload_n hx hb dX5_watchNow_24 rfl (lv_at hl 2 rfl) ?_
      refine lv_imul hx hb dX5_watchNow_25 ?_
      refine lv_iadd hx hb dX5_watchNow_26 ?_
      obtain ⟨v12, e13, hF⟩ := ob_s hF
      refine m_iaI X hp e13 dX5_watchNow_27 ?_
      refine lv_aload_n hx hb dX5_watchNow_28 rfl (lv_at hl 0 rfl) ?_
      obtain ⟨v14, e15, hF⟩ := ob_s hF
      refine m_getR X hp e15 kX5 (Nat.le_of_ble_eq_true rfl) q1460 dX5_watchNow_29 ?_
      refine lv_sipush (v := 936) hx hb dX5_watchNow_32 (by decide) ?_
      obtain ⟨v16, e17, hF⟩ := ob_s hF
      refine m_iaI X hp e17 dX5_watchNow_35 ?_
      refine lv_icmp_gt (tgt := 54) hx hb dX5_watchNow_36 (by decide) (fun c18 => ?_) (fun c18 => ?_)
      · have hF := if_p c18 hF
        exact b_X5_watchNow_54 X _ ih _ _ _ _ _ _ hp (lv_sub hl [0, 1, 2] rfl) hF
      · have hF := if_n c18 hF
        refine lv_aload_n hx hb dX5_watchNow_39 rfl (lv_at hl 0 rfl) ?_
        obtain ⟨v19, e20, hF⟩ := ob_s hF
        refine m_getR X hp e20 kX5 (Nat.le_of_ble_eq_true rfl) q1460 dX5_watchNow_40 ?_
        refine lv_sipush (v := 2325) hx hb dX5_watchNow_43 (by decide) ?_
        refine lv_iconst (v := 2) hx hb dX5_watchNow_46 (by decide) ?_
        refine lv_iload_n hx hb dX5_watchNow_47 rfl (lv_at hl 2 rfl) ?_
        refine lv_imul hx hb dX5_watchNow_48 ?_
        refine lv_iadd hx hb dX5_watchNow_49 ?_
        refine lv_iconst (v := 1) hx hb dX5_watchNow_50 (by decide) ?_
        refine lv_iadd hx hb dX5_watchNow_51 ?_
        obtain ⟨v21, e22, hF⟩ := ob_s hF
        refine m_iaI X hp e22 dX5_watchNow_52 ?_
        refine lv_istore_n (lv' := [(1, .int v21), (0, .ref x0), (2, .int x2)]) hx hb dX5_watchNow_53 rfl hl (by decide) rfl (fun ls hl => ?_)
        exact b_X5_watchNow_54 X _ ih _ _ _ _ _ _ hp (lv_sub hl [1, 0, 2] rfl) hF
def f_X5_watchNow (S : mSh) (M : mMm) (x0 : Nat) : Option Int32 := nm ((0 : Int32)) fun v1 => nm ((0 : Int32)) fun v3 => (fb_X5_watchNow_4 S M FU x0 v1 v3)
theorem w_X5_watchNow {x0 : Nat} {r : Int32} (hF : f_X5_watchNow S M x0 = some r) : mCt l D n0 P yX5_watchNow cX5_watchNow 3 (some .int) 0 0 0 0 [.ref x0] S M n (some (.int r)) S M n := by
  refine m_ofW (by decide) (Nat.le_of_ble_eq_true rfl) (fun p e s m below meth c X hnm hp ls hl => ?_)
  have hx := X.1.1
  have hb := X.1.2.1
  have hown := X.1.2.2.2.1
  have hts := X.1.2.2.2.2
  have hl : lv_has ls 3 [(0, .ref x0)] := hl
  unfold f_X5_watchNow at hF
  refine lv_iconst (v := 0) hx hb dX5_watchNow_0 (by decide) ?_
  refine lv_topi (fun v1 ev2 => ?_)
  have hF := nm_s hF ev2
  refine lv_istore_n (lv' := [(1, .int v1), (0, .ref x0)]) hx hb dX5_watchNow_1 rfl hl (by decide) rfl (fun ls hl => ?_)
  refine lv_iconst (v := 0) hx hb dX5_watchNow_2 (by decide) ?_
  refine lv_topi (fun v3 ev4 => ?_)
  have hF := nm_s hF ev4
  refine lv_istore_n (lv' := [(2, .int v3), (1, .int v1), (0, .ref x0)]) hx hb dX5_watchNow_3 rfl hl (by decide) rfl (fun ls hl => ?_)
  exact b_X5_watchNow_4 X _ _ _ _ _ _ _ hp (lv_sub hl [2, 1, 0] rfl) hF
end
section
variable {l : Launch} {D : va_G} {n0 : Nat} {P : mP} {S : mSh} {M : mMm} {n : Nat} {p : Program} {e : Env} {s : State} {m : MethodId} {args : Array Value} {below : List Frame} {meth : Method} {c : Code}
abbrev Rm_X5_laysFacts : Room := { frames := 2, cells := 0, slots := 0, locals := 44 }
def fb_X5_laysFacts_120 (S : mSh) (M : mMm) (x0 : Nat) (y0 : Int32) (y1 : Int32) (y2 : Nat) : Option mMm := ob (wA S M y2 100 y1 (.int y0)) fun M50 => ob (rR S M50 x0 6 20) fun v52 => ob (f_X5_inside S M50 x0) fun v55 => ob (wA S M50 v52 100 (7 : Int32) (.int v55)) fun M56 => ob (rR S M56 x0 6 20) fun v58 => ob (f_X5_watchNow S M56 x0) fun v61 => ob (wA S M56 v58 100 (8 : Int32) (.int v61)) fun M62 => ob (rR S M62 x0 6 20) fun v64 => ob (rR S M62 x0 6 1) fun v66 => ob (aI S M62 v66 100 (936 : Int32)) fun v68 => ob (wA S M62 v64 100 (9 : Int32) (.int v68)) fun M70 => some M70
theorem b_X5_laysFacts_120 {M' : mMm} (X : mCx D n0 P p m c cX5_laysFacts 3 s args yX5_laysFacts.cls meth none) : ∀ (M : mMm) (x0 : Nat) (y0 : Int32) (y1 : Int32) (y2 : Nat) (H : Heap) (locs : List Loc) (ls : Array Slot), mHp D n0 S M n s H locs → lv_has ls 3 [(0, .ref x0)] → fb_X5_laysFacts_120 S M x0 y0 y1 y2 = some M' → W p l e Rm_X5_laysFacts s m args below meth c H locs 0 0 (MQ below (mQ D n0 none S M' n) args s 0 0 (mA n0)) (F0 m 120 ls [.int y0, .int y1, .ref y2]) := by
  have hx := X.1.1
  have hb := X.1.2.1
  have hown := X.1.2.2.2.1
  have hts := X.1.2.2.2.2
  intro M x0 y0 y1 y2 H locs ls hp hl hF
  unfold fb_X5_laysFacts_120 at hF
  obtain ⟨M50, e51, hF⟩ := ob_s hF
  refine m_iaW X hp e51 dX5_laysFacts_120 (fun H locs hp => ?_)
  refine lv_aload_n hx hb dX5_laysFacts_121 rfl (lv_at hl 0 rfl) ?_
  obtain ⟨v52, e53, hF⟩ := ob_s hF
  refine m_getR X hp e53 kX5 (Nat.le_of_ble_eq_true rfl) q1479 dX5_laysFacts_122 ?_
  refine lv_bipush (v := 7) hx hb dX5_laysFacts_125 (by decide) ?_
  refine lv_aload_n hx hb dX5_laysFacts_127 rfl (lv_at hl 0 rfl) ?_
  obtain ⟨v55, e54, hF⟩ := ob_s hF
  refine m_callV (As := []) (rest := [.int (7 : Int32), .ref v52]) X hp (w_X5_inside e54) q1787 q1789 qs101 q144 q1790 0 rfl ds_X5_inside ⟨Nat.le_of_ble_eq_true rfl, Nat.le_of_ble_eq_true rfl⟩ 6 (T := TX5) (N := 40) rfl (by decide) (rR_s e53).1 hl.1 rfl (Nat.le_of_ble_eq_true rfl) dX5_laysFacts_128 ⟨Nat.le_refl 0, Nat.le_refl 0⟩ (fun H locs hp => ?_)
  obtain ⟨M56, e57, hF⟩ := ob_s hF
  refine m_iaW X hp e57 dX5_laysFacts_131 (fun H locs hp => ?_)
  refine lv_aload_n hx hb dX5_laysFacts_132 rfl (lv_at hl 0 rfl) ?_
  obtain ⟨v58, e59, hF⟩ := ob_s hF
  refine m_getR X hp e59 kX5 (Nat.le_of_ble_eq_true rfl) q1479 dX5_laysFacts_133 ?_
  refine lv_bipush (v := 8) hx hb dX5_laysFacts_136 (by decide) ?_
  refine lv_aload_n hx hb dX5_laysFacts_138 rfl (lv_at hl 0 rfl) ?_
  obtain ⟨v61, e60, hF⟩ := ob_s hF
  refine m_callV (As := []) (rest := [.int (8 : Int32), .ref v58]) X hp (w_X5_watchNow e60) q1791 q1793 qs102 q144 q1794 0 rfl ds_X5_watchNow ⟨Nat.le_of_ble_eq_true rfl, Nat.le_of_ble_eq_true rfl⟩ 6 (T := TX5) (N := 40) rfl (by decide) (rR_s e59).1 hl.1 rfl (Nat.le_of_ble_eq_true rfl) dX5_laysFacts_139 ⟨Nat.le_refl 0, Nat.le_refl 0⟩ (fun H locs hp => ?_)
  obtain ⟨M62, e63, hF⟩ := ob_s hF
  refine m_iaW X hp e63 dX5_laysFacts_142 (fun H locs hp => ?_)
  refine lv_aload_n hx hb dX5_laysFacts_143 rfl (lv_at hl 0 rfl) ?_
  obtain ⟨v64, e65, hF⟩ := ob_s hF
  refine m_getR X hp e65 kX5 (Nat.le_of_ble_eq_true rfl) q1479 dX5_laysFacts_144 ?_
  refine lv_bipush (v := 9) hx hb dX5_laysFacts_147 (by decide) ?_
  refine lv_aload_n hx hb dX5_laysFacts_149 rfl (lv_at hl 0 rfl) ?_
  obtain ⟨v66, e67, hF⟩ := ob_s hF
  refine m_getR X hp e67 kX5 (Nat.le_of_ble_eq_true rfl) q1460 dX5_laysFacts_150 ?_
  refine lv_sipush (v := 936) hx hb dX5_laysFacts_153 (by decide) ?_
  obtain ⟨v68, e69, hF⟩ := ob_s hF
  refine m_iaI X hp e69 dX5_laysFacts_156 ?_
  obtain ⟨M70, e71, hF⟩ := ob_s hF
  refine m_iaW X hp e71 dX5_laysFacts_157 (fun H locs hp => ?_)
  cases hF
  exact m_vret X hp dX5_laysFacts_158
def f_X5_laysFacts (S : mSh) (M : mMm) (x0 : Nat) (x1 : Int32) : Option mMm := gd ((S x0).1 = 6) (ob (f_X5_has S M x0 x1 (1 : Int32)) fun v3 => ob (rR S M x0 6 20) fun v4 => ob (f_X5_has S M x0 x1 (0 : Int32)) fun v7 => ob (wA S M v4 100 (0 : Int32) (.int v7)) fun M8 => ob (rR S M8 x0 6 20) fun v10 => ob (f_X5_has S M8 x0 x1 (5 : Int32)) fun v13 => ob (wA S M8 v10 100 (1 : Int32) (.int (v3 * v13))) fun M14 => ob (rR S M14 x0 6 20) fun v16 => ob (f_X5_has S M14 x0 x1 (6 : Int32)) fun v19 => ob (wA S M14 v16 100 (2 : Int32) (.int (v3 * v19))) fun M20 => ob (rR S M20 x0 6 20) fun v22 => ob (f_X5_has S M20 x0 x1 (2 : Int32)) fun v25 => ob (wA S M20 v22 100 (3 : Int32) (.int (v3 * v25))) fun M26 => ob (rR S M26 x0 6 20) fun v28 => ob (f_X5_has S M26 x0 x1 (3 : Int32)) fun v31 => ob (wA S M26 v28 100 (4 : Int32) (.int (v3 * v31))) fun M32 => ob (rR S M32 x0 6 20) fun v34 => ob (f_X5_has S M32 x0 x1 (4 : Int32)) fun v37 => ob (wA S M32 v34 100 (5 : Int32) (.int (v3 * v37))) fun M38 => ob (rR S M38 x0 6 20) fun v40 => (if v3 = (1 : Int32) then ob (rR S M38 x0 6 1) fun v43 => ob (f_X5_standsAt S M38 x0 x1) fun v46 => ob (aI S M38 v43 100 v46) fun v47 => (if v47 = (2 : Int32) then (fb_X5_laysFacts_120 S M38 x0 (1 : Int32) (6 : Int32) v40) else (fb_X5_laysFacts_120 S M38 x0 (0 : Int32) (6 : Int32) v40)) else (fb_X5_laysFacts_120 S M38 x0 (0 : Int32) (6 : Int32) v40)))
theorem w_X5_laysFacts {x0 : Nat} {x1 : Int32} {M' : mMm} (hF : f_X5_laysFacts S M x0 x1 = some M') : mCt l D n0 P yX5_laysFacts cX5_laysFacts 3 none 2 44 0 0 [.ref x0, .int x1] S M n none S M' n := by
  refine m_ofW (by decide) (Nat.le_of_ble_eq_true rfl) (fun p e s m below meth c X hnm hp ls hl => ?_)
  have hx := X.1.1
  have hb := X.1.2.1
  have hown := X.1.2.2.2.1
  have hts := X.1.2.2.2.2
  have hl : lv_has ls 3 [(0, .ref x0), (1, .int x1)] := hl
  unfold f_X5_laysFacts at hF
  refine lv_aload_n hx hb dX5_laysFacts_0 rfl (lv_at hl 0 rfl) ?_
  refine lv_iload_n hx hb dX5_laysFacts_1 rfl (lv_at hl 1 rfl) ?_
  refine lv_iconst (v := 1) hx hb dX5_laysFacts_2 (by decide) ?_
  obtain ⟨g1, hF⟩ := gd_s hF
  obtain ⟨v3, e2, hF⟩ := ob_s hF
  refine m_callV (As := [.int x1, .int (1 : Int32)]) (rest := []) X hp (w_X5_has e2) q1727 q1729 qs89 q144 q1730 2 rfl ds_X5_has ⟨Nat.le_of_ble_eq_true rfl, Nat.le_of_ble_eq_true rfl⟩ 6 (T := TX5) (N := 40) rfl (by decide) g1 hl.1 rfl (Nat.le_of_ble_eq_true rfl) dX5_laysFacts_3 ⟨Nat.le_refl 0, Nat.le_refl 0⟩ (fun H locs hp => ?_)
  refine lv_istore_n (lv' := [(2, .int v3), (0, .ref x0), (1, .int x1)]) hx hb dX5_laysFacts_6 rfl hl (by decide) rfl (fun ls hl => ?_)
  refine lv_aload_n hx hb dX5_laysFacts_7 rfl (lv_at hl 1 rfl) ?_
  obtain ⟨v4, e5, hF⟩ := ob_s hF
  refine m_getR X hp e5 kX5 (Nat.le_of_ble_eq_true rfl) q1479 dX5_laysFacts_8 ?_
  refine lv_iconst (v := 0) hx hb dX5_laysFacts_11 (by decide) ?_
  refine lv_aload_n hx hb dX5_laysFacts_12 rfl (lv_at hl 1 rfl) ?_
  refine lv_iload_n hx hb dX5_laysFacts_13 rfl (lv_at hl 2 rfl) ?_
  refine lv_iconst (v := 0) hx hb dX5_laysFacts_14 (by decide) ?_
  obtain ⟨v7, e6, hF⟩ := ob_s hF
  refine m_callV (As := [.int x1, .int (0 : Int32)]) (rest := [.int (0 : Int32), .ref v4]) X hp (w_X5_has e6) q1727 q1729 qs89 q144 q1730 2 rfl ds_X5_has ⟨Nat.le_of_ble_eq_true rfl, Nat.le_of_ble_eq_true rfl⟩ 6 (T := TX5) (N := 40) rfl (by decide) (rR_s e5).1 hl.1 rfl (Nat.le_of_ble_eq_true rfl) dX5_laysFacts_15 ⟨Nat.le_refl 0, Nat.le_refl 0⟩ (fun H locs hp => ?_)
  obtain ⟨M8, e9, hF⟩ := ob_s hF
  refine m_iaW X hp e9 dX5_laysFacts_18 (fun H locs hp => ?_)
  refine lv_aload_n hx hb dX5_laysFacts_19 rfl (lv_at hl 1 rfl) ?_
  obtain ⟨v10, e11, hF⟩ := ob_s hF
  refine m_getR X hp e11 kX5 (Nat.le_of_ble_eq_true rfl) q1479 dX5_laysFacts_20 ?_
  refine lv_iconst (v := 1) hx hb dX5_laysFacts_23 (by decide) ?_
  refine lv_iload_n hx hb dX5_laysFacts_24 rfl (lv_at hl 0 rfl) ?_
  refine lv_aload_n hx hb dX5_laysFacts_25 rfl (lv_at hl 1 rfl) ?_
  refine lv_iload_n hx hb dX5_laysFacts_26 rfl (lv_at hl 2 rfl) ?_
  refine lv_iconst (v := 5) hx hb dX5_laysFacts_27 (by decide) ?_
  obtain ⟨v13, e12, hF⟩ := ob_s hF
  refine m_callV (As := [.int x1, .int (5 : Int32)]) (rest := [.int v3, .int (1 : Int32), .ref v10]) X hp (w_X5_has e12) q1727 q1729 qs89 q144 q1730 2 rfl ds_X5_has ⟨Nat.le_of_ble_eq_true rfl, Nat.le_of_ble_eq_true rfl⟩ 6 (T := TX5) (N := 40) rfl (by decide) (rR_s e11).1 hl.1 rfl (Nat.le_of_ble_eq_true rfl) dX5_laysFacts_28 ⟨Nat.le_refl 0, Nat.le_refl 0⟩ (fun H locs hp => ?_)
  refine lv_imul hx hb dX5_laysFacts_31 ?_
  obtain ⟨M14, e15, hF⟩ := ob_s hF
  refine m_iaW X hp e15 dX5_laysFacts_32 (fun H locs hp => ?_)
  refine lv_aload_n hx hb dX5_laysFacts_33 rfl (lv_at hl 1 rfl) ?_
  obtain ⟨v16, e17, hF⟩ := ob_s hF
  refine m_getR X hp e17 kX5 (Nat.le_of_ble_eq_true rfl) q1479 dX5_laysFacts_34 ?_
  refine lv_iconst (v := 2) hx hb dX5_laysFacts_37 (by decide) ?_
  refine lv_iload_n hx hb dX5_laysFacts_38 rfl (lv_at hl 0 rfl) ?_
  refine lv_aload_n hx hb dX5_laysFacts_39 rfl (lv_at hl 1 rfl) ?_
  refine lv_iload_n hx hb dX5_laysFacts_40 rfl (lv_at hl 2 rfl) ?_
  refine lv_bipush (v := 6) hx hb dX5_laysFacts_41 (by decide) ?_
  obtain ⟨v19, e18, hF⟩ := ob_s hF
  refine m_callV (As := [.int x1, .int (6 : Int32)]) (rest := [.int v3, .int (2 : Int32), .ref v16]) X hp (w_X5_has e18) q1727 q1729 qs89 q144 q1730 2 rfl ds_X5_has ⟨Nat.le_of_ble_eq_true rfl, Nat.le_of_ble_eq_true rfl⟩ 6 (T := TX5) (N := 40) rfl (by decide) (rR_s e17).1 hl.1 rfl (Nat.le_of_ble_eq_true rfl) dX5_laysFacts_43 ⟨Nat.le_refl 0, Nat.le_refl 0⟩ (fun H locs hp => ?_)
  refine lv_imul hx hb dX5_laysFacts_46 ?_
  obtain ⟨M20, e21, hF⟩ := ob_s hF
  refine m_iaW X hp e21 dX5_laysFacts_47 (fun H locs hp => ?_)
  refine lv_aload_n hx hb dX5_laysFacts_48 rfl (lv_at hl 1 rfl) ?_
  obtain ⟨v22, e23, hF⟩ := ob_s hF
  refine m_getR X hp e23 kX5 (Nat.le_of_ble_eq_true rfl) q1479 dX5_laysFacts_49 ?_
  refine lv_iconst (v := 3) hx hb dX5_laysFacts_52 (by decide) ?_
  refine lv_iload_n hx hb dX5_laysFacts_53 rfl (lv_at hl 0 rfl) ?_
  refine lv_aload_n hx hb dX5_laysFacts_54 rfl (lv_at hl 1 rfl) ?_
  refine lv_iload_n hx hb dX5_laysFacts_55 rfl (lv_at hl 2 rfl) ?_
  refine lv_iconst (v := 2) hx hb dX5_laysFacts_56 (by decide) ?_
  obtain ⟨v25, e24, hF⟩ := ob_s hF
  refine m_callV (As := [.int x1, .int (2 : Int32)]) (rest := [.int v3, .int (3 : Int32), .ref v22]) X hp (w_X5_has e24) q1727 q1729 qs89 q144 q1730 2 rfl ds_X5_has ⟨Nat.le_of_ble_eq_true rfl, Nat.le_of_ble_eq_true rfl⟩ 6 (T := TX5) (N := 40) rfl (by decide) (rR_s e23).1 hl.1 rfl (Nat.le_of_ble_eq_true rfl) dX5_laysFacts_57 ⟨Nat.le_refl 0, Nat.le_refl 0⟩ (fun H locs hp => ?_)
  refine lv_imul hx hb dX5_laysFacts_60 ?_
  obtain ⟨M26, e27, hF⟩ := ob_s hF
  refine m_iaW X hp e27 dX5_laysFacts_61 (fun H locs hp => ?_)
  refine lv_aload_n hx hb dX5_laysFacts_62 rfl (lv_at hl 1 rfl) ?_
  obtain ⟨v28, e29, hF⟩ := ob_s hF
  refine m_getR X hp e29 kX5 (Nat.le_of_ble_eq_true rfl) q1479 dX5_laysFacts_63 ?_
  refine lv_iconst (v := 4) hx hb dX5_laysFacts_66 (by decide) ?_
  refine lv_iload_n hx hb dX5_laysFacts_67 rfl (lv_at hl 0 rfl) ?_
  refine lv_aload_n hx hb dX5_laysFacts_68 rfl (lv_at hl 1 rfl) ?_
  refine lv_iload_n hx hb dX5_laysFacts_69 rfl (lv_at hl 2 rfl) ?_
  refine lv_iconst (v := 3) hx hb dX5_laysFacts_70 (by decide) ?_
  obtain ⟨v31, e30, hF⟩ := ob_s hF
  refine m_callV (As := [.int x1, .int (3 : Int32)]) (rest := [.int v3, .int (4 : Int32), .ref v28]) X hp (w_X5_has e30) q1727 q1729 qs89 q144 q1730 2 rfl ds_X5_has ⟨Nat.le_of_ble_eq_true rfl, Nat.le_of_ble_eq_true rfl⟩ 6 (T := TX5) (N := 40) rfl (by decide) (rR_s e29).1 hl.1 rfl (Nat.le_of_ble_eq_true rfl) dX5_laysFacts_71 ⟨Nat.le_refl 0, Nat.le_refl 0⟩ (fun H locs hp => ?_)
  refine lv_imul hx hb dX5_laysFacts_74 ?_
  obtain ⟨M32, e33, hF⟩ := ob_s hF
  refine m_iaW X hp e33 dX5_laysFacts_75 (fun H locs hp => ?_)
  refine lv_aload_n hx hb dX5_laysFacts_76 rfl (lv_at hl 1 rfl) ?_
  obtain ⟨v34, e35, hF⟩ := ob_s hF
  refine m_getR X hp e35 kX5 (Nat.le_of_ble_eq_true rfl) q1479 dX5_laysFacts_77 ?_
  refine lv_iconst (v := 5) hx hb dX5_laysFacts_80 (by decide) ?_
  refine lv_iload_n hx hb dX5_laysFacts_81 rfl (lv_at hl 0 rfl) ?_
  refine lv_aload_n hx hb dX5_laysFacts_82 rfl (lv_at hl 1 rfl) ?_
  refine lv_iload_n hx hb dX5_laysFacts_83 rfl (lv_at hl 2 rfl) ?_
  refine lv_iconst (v := 4) hx hb dX5_laysFacts_84 (by decide) ?_
  obtain ⟨v37, e36, hF⟩ := ob_s hF
  refine m_callV (As := [.int x1, .int (4 : Int32)]) (rest := [.int v3, .int (5 : Int32), .ref v34]) X hp (w_X5_has e36) q1727 q1729 qs89 q144 q1730 2 rfl ds_X5_has ⟨Nat.le_of_ble_eq_true rfl, Nat.le_of_ble_eq_true rfl⟩ 6 (T := TX5) (N := 40) rfl (by decide) (rR_s e35).1 hl.1 rfl (Nat.le_of_ble_eq_true rfl) dX5_laysFacts_85 ⟨Nat.le_refl 0, Nat.le_refl 0⟩ (fun H locs hp => ?_)
  refine lv_imul hx hb dX5_laysFacts_88 ?_
  obtain ⟨M38, e39, hF⟩ := ob_s hF
  refine m_iaW X hp e39 dX5_laysFacts_89 (fun H locs hp => ?_)
  refine lv_aload_n hx hb dX5_laysFacts_90 rfl (lv_at hl 1 rfl) ?_
  obtain ⟨v40, e41, hF⟩ := ob_s hF
  refine m_getR X hp e41 kX5 (Nat.le_of_ble_eq_true rfl) q1479 dX5_laysFacts_91 ?_
  refine lv_bipush (v := 6) hx hb dX5_laysFacts_94 (by decide) ?_
  refine lv_iload_n hx hb dX5_laysFacts_96 rfl (lv_at hl 0 rfl) ?_
  refine lv_iconst (v := 1) hx hb dX5_laysFacts_97 (by decide) ?_
  refine lv_icmp_ne (tgt := 119) hx hb dX5_laysFacts_98 (by decide) (fun c42 => ?_) (fun c42 => ?_)
  · have hF := if_n c42 hF
    refine lv_iconst (v := 0) hx hb dX5_laysFacts_119 (by decide) ?_
    exact b_X5_laysFacts_120 X _ _ _ _ _ _ _ _ hp (lv_sub hl [1] rfl) hF
  · have hF := if_p c42 hF
    refine lv_aload_n hx hb dX5_laysFacts_101 rfl (lv_at hl 1 rfl) ?_
    obtain ⟨v43, e44, hF⟩ := ob_s hF
    refine m_getR X hp e44 kX5 (Nat.le_of_ble_eq_true rfl) q1460 dX5_laysFacts_102 ?_
    refine lv_aload_n hx hb dX5_laysFacts_105 rfl (lv_at hl 1 rfl) ?_
    refine lv_iload_n hx hb dX5_laysFacts_106 rfl (lv_at hl 2 rfl) ?_
    obtain ⟨v46, e45, hF⟩ := ob_s hF
    refine m_callV (As := [.int x1]) (rest := [.ref v43, .int (6 : Int32), .ref v40]) X hp (w_X5_standsAt e45) q1750 q1752 qs94 q144 q1753 1 rfl ds_X5_standsAt ⟨Nat.le_of_ble_eq_true rfl, Nat.le_of_ble_eq_true rfl⟩ 6 (T := TX5) (N := 40) rfl (by decide) (rR_s e44).1 hl.1 rfl (Nat.le_of_ble_eq_true rfl) dX5_laysFacts_107 ⟨Nat.le_refl 0, Nat.le_refl 0⟩ (fun H locs hp => ?_)
    obtain ⟨v47, e48, hF⟩ := ob_s hF
    refine m_iaI X hp e48 dX5_laysFacts_110 ?_
    refine lv_iconst (v := 2) hx hb dX5_laysFacts_111 (by decide) ?_
    refine lv_icmp_ne (tgt := 119) hx hb dX5_laysFacts_112 (by decide) (fun c49 => ?_) (fun c49 => ?_)
    · have hF := if_n c49 hF
      refine lv_iconst (v := 0) hx hb dX5_laysFacts_119 (by decide) ?_
      exact b_X5_laysFacts_120 X _ _ _ _ _ _ _ _ hp (lv_sub hl [1] rfl) hF
    · have hF := if_p c49 hF
      refine lv_iconst (v := 1) hx hb dX5_laysFacts_115 (by decide) ?_
      refine lv_goto (tgt := 120) hx hb dX5_laysFacts_116 (by decide) ?_
      exact b_X5_laysFacts_120 X _ _ _ _ _ _ _ _ hp (lv_sub hl [1] rfl) hF
end
section
variable {l : Launch} {D : va_G} {n0 : Nat} {P : mP} {S : mSh} {M : mMm} {n : Nat} {p : Program} {e : Env} {s : State} {m : MethodId} {args : Array Value} {below : List Frame} {meth : Method} {c : Code}
abbrev Rm_X5_comesTo : Room := { frames := 2, cells := 0, slots := 0, locals := 42 }
def fb_X5_comesTo_158 (S : mSh) (k5 : mMm → Nat → Int32 → Int32 → Int32 → Option (Int32 × mMm)) (M : mMm) (x0 : Nat) (x2 : Int32) (x3 : Int32) (x4 : Int32) : Option (Int32 × mMm) := nm (x4 + (1 : Int32)) fun v63 => (k5 M x0 x2 x3 v63)
theorem b_X5_comesTo_158 {r : Int32} {M' : mMm} (X : mCx D n0 P p m c cX5_comesTo 7 s args yX5_comesTo.cls meth (some .int)) (k5 : mMm → Nat → Int32 → Int32 → Int32 → Option (Int32 × mMm)) (hk5 : ∀ (M : mMm) (x0 : Nat) (x2 : Int32) (x3 : Int32) (x4 : Int32) (H : Heap) (locs : List Loc) (ls : Array Slot), mHp D n0 S M n s H locs → lv_has ls 7 [(0, .ref x0), (2, .int x2), (3, .int x3), (4, .int x4)] → k5 M x0 x2 x3 x4 = some (r, M') → W p l e Rm_X5_comesTo s m args below meth c H locs 0 0 (MQ below (mQ D n0 (some (.int r)) S M' n) args s 0 0 (mA n0)) (F0 m 5 ls [])) : ∀ (M : mMm) (x0 : Nat) (x2 : Int32) (x3 : Int32) (x4 : Int32) (H : Heap) (locs : List Loc) (ls : Array Slot), mHp D n0 S M n s H locs → lv_has ls 7 [(0, .ref x0), (2, .int x2), (3, .int x3), (4, .int x4)] → fb_X5_comesTo_158 S k5 M x0 x2 x3 x4 = some (r, M') → W p l e Rm_X5_comesTo s m args below meth c H locs 0 0 (MQ below (mQ D n0 (some (.int r)) S M' n) args s 0 0 (mA n0)) (F0 m 158 ls []) := by
  have hx := X.1.1
  have hb := X.1.2.1
  have hown := X.1.2.2.2.1
  have hts := X.1.2.2.2.2
  intro M x0 x2 x3 x4 H locs ls hp hl hF
  unfold fb_X5_comesTo_158 at hF
  obtain ⟨v63, ev64⟩ : ∃ y : Int32, y = x4 + (1 : Int32) := ⟨_, rfl⟩
  have hF := nm_s hF ev64
  refine lv_iinc (v := v63) (lv' := [(4, .int v63), (0, .ref x0), (2, .int x2), (3, .int x3)]) hx hb dX5_comesTo_158 hl (k := 3) rfl (by rw [ev64]; rfl) (by decide) rfl (fun ls hl => ?_)
  refine lv_goto (tgt := 5) hx hb dX5_comesTo_161 (by decide) ?_
  exact hk5 _ _ _ _ _ _ _ _ hp (lv_sub hl [1, 2, 3, 0] rfl) hF
def fb_X5_comesTo_71 (S : mSh) (k5 : mMm → Nat → Int32 → Int32 → Int32 → Option (Int32 × mMm)) (M : mMm) (x0 : Nat) (x2 : Int32) (x3 : Int32) (x4 : Int32) (y0 : Int32) (y1 : Int32) (y2 : Nat) : Option (Int32 × mMm) := ob (wA S M y2 100 y1 (.int y0)) fun M59 => nm (x3 + (1 : Int32)) fun v61 => (fb_X5_comesTo_158 S k5 M59 x0 x2 v61 x4)
theorem b_X5_comesTo_71 {r : Int32} {M' : mMm} (X : mCx D n0 P p m c cX5_comesTo 7 s args yX5_comesTo.cls meth (some .int)) (k5 : mMm → Nat → Int32 → Int32 → Int32 → Option (Int32 × mMm)) (hk5 : ∀ (M : mMm) (x0 : Nat) (x2 : Int32) (x3 : Int32) (x4 : Int32) (H : Heap) (locs : List Loc) (ls : Array Slot), mHp D n0 S M n s H locs → lv_has ls 7 [(0, .ref x0), (2, .int x2), (3, .int x3), (4, .int x4)] → k5 M x0 x2 x3 x4 = some (r, M') → W p l e Rm_X5_comesTo s m args below meth c H locs 0 0 (MQ below (mQ D n0 (some (.int r)) S M' n) args s 0 0 (mA n0)) (F0 m 5 ls [])) : ∀ (M : mMm) (x0 : Nat) (x2 : Int32) (x3 : Int32) (x4 : Int32) (y0 : Int32) (y1 : Int32) (y2 : Nat) (H : Heap) (locs : List Loc) (ls : Array Slot), mHp D n0 S M n s H locs → lv_has ls 7 [(0, .ref x0), (2, .int x2), (3, .int x3), (4, .int x4)] → fb_X5_comesTo_71 S k5 M x0 x2 x3 x4 y0 y1 y2 = some (r, M') → W p l e Rm_X5_comesTo s m args below meth c H locs 0 0 (MQ below (mQ D n0 (some (.int r)) S M' n) args s 0 0 (mA n0)) (F0 m 71 ls [.int y0, .int y1, .ref y2]) := by
  have hx := X.1.1
  have hb := X.1.2.1
  have hown := X.1.2.2.2.1
  have hts := X.1.2.2.2.2
  intro M x0 x2 x3 x4 y0 y1 y2 H locs ls hp hl hF
  unfold fb_X5_comesTo_71 at hF
  obtain ⟨M59, e60, hF⟩ := ob_s hF
  refine m_iaW X hp e60 dX5_comesTo_71 (fun H locs hp => ?_)
  obtain ⟨v61, ev62⟩ : ∃ y : Int32, y = x3 + (1 : Int32) := ⟨_, rfl⟩
  have hF := nm_s hF ev62
  refine lv_iinc (v := v61) (lv' := [(3, .int v61), (0, .ref x0), (2, .int x2), (4, .int x4)]) hx hb dX5_comesTo_72 hl (k := 2) rfl (by rw [ev62]; rfl) (by decide) rfl (fun ls hl => ?_)
  refine lv_goto (tgt := 158) hx hb dX5_comesTo_75 (by decide) ?_
  exact b_X5_comesTo_158 X _ hk5 _ _ _ _ _ _ _ _ hp (lv_sub hl [1, 2, 0, 3] rfl) hF
def fb_X5_comesTo_5 (S : mSh) : Nat → mMm → Nat → Int32 → Int32 → Int32 → Option (Int32 × mMm)
  | 0, _, _, _, _, _ => none
  | t + 1, M, x0, x2, x3, x4 => (if x2 ≤ x4 then ob (rR S M x0 6 21) fun v4 => ob (aI S M v4 100 (0 : Int32)) fun v6 => some (v6, M) else ob (rR S M x0 6 1) fun v8 => ob (aI S M v8 100 ((1025 : Int32) + ((2 : Int32) * x4))) fun v10 => ob (rR S M x0 6 1) fun v12 => ob (aI S M v12 100 (((1025 : Int32) + ((2 : Int32) * x4)) + (1 : Int32))) fun v14 => (if (1 : Int32) < v10 then (if v10 = (5 : Int32) then ob (rR S M x0 6 21) fun v43 => nm ((x3 - (1 : Int32))) fun v45 => ob (aI S M v43 100 v45) fun v47 => gd (¬ v14 = 0) (ob (wA S M v43 100 v45 (.int (v47 / v14))) fun M50 => (fb_X5_comesTo_158 S (fb_X5_comesTo_5 S t) M50 x0 x2 x3 x4)) else (if v10 = (9 : Int32) then ob (rR S M x0 6 21) fun v35 => ob (rR S M x0 6 21) fun v37 => ob (aI S M v37 100 (x3 - (1 : Int32))) fun v39 => ob (wA S M v35 100 (x3 - (1 : Int32)) (.int ((1 : Int32) - v39))) fun M41 => (fb_X5_comesTo_158 S (fb_X5_comesTo_5 S t) M41 x0 x2 x3 x4) else nm (x3 + (-1 : Int32)) fun v19 => ob (rR S M x0 6 21) fun v21 => ob (rR S M x0 6 21) fun v23 => ob (aI S M v23 100 (v19 - (1 : Int32))) fun v25 => ob (rR S M x0 6 21) fun v27 => ob (aI S M v27 100 v19) fun v29 => ob (f_X5_both v10 v25 v29) fun v32 => ob (wA S M v21 100 (v19 - (1 : Int32)) (.int v32)) fun M33 => (fb_X5_comesTo_158 S (fb_X5_comesTo_5 S t) M33 x0 x2 v19 x4))) else ob (rR S M x0 6 21) fun v52 => (if v10 = 0 then (fb_X5_comesTo_71 S (fb_X5_comesTo_5 S t) M x0 x2 x3 x4 v14 x3 v52) else ob (rR S M x0 6 20) fun v55 => ob (aI S M v55 100 v14) fun v57 => (fb_X5_comesTo_71 S (fb_X5_comesTo_5 S t) M x0 x2 x3 x4 v57 x3 v52))))
theorem b_X5_comesTo_5 {r : Int32} {M' : mMm} (X : mCx D n0 P p m c cX5_comesTo 7 s args yX5_comesTo.cls meth (some .int)) : ∀ t : Nat, ∀ (M : mMm) (x0 : Nat) (x2 : Int32) (x3 : Int32) (x4 : Int32) (H : Heap) (locs : List Loc) (ls : Array Slot), mHp D n0 S M n s H locs → lv_has ls 7 [(0, .ref x0), (2, .int x2), (3, .int x3), (4, .int x4)] → fb_X5_comesTo_5 S t M x0 x2 x3 x4 = some (r, M') → W p l e Rm_X5_comesTo s m args below meth c H locs 0 0 (MQ below (mQ D n0 (some (.int r)) S M' n) args s 0 0 (mA n0)) (F0 m 5 ls []) := by
  have hx := X.1.1
  have hb := X.1.2.1
  have hown := X.1.2.2.2.1
  have hts := X.1.2.2.2.2
  intro t
  induction t with
  | zero =>
    intro M x0 x2 x3 x4 H locs ls hp hl hF
    have hF : none = some (r, M') := hF
    cases hF
  | succ t ih =>
    intro M x0 x2 x3 x4 H locs ls hp hl hF
    rw [fb_X5_comesTo_5] at hF
    refine lv_iload hx hb dX5_comesTo_5 (lv_at hl 3 rfl) ?_
    refine lv_iload_n hx hb dX5_comesTo_7 rfl (lv_at hl 1 rfl) ?_
    refine lv_icmp_ge (tgt := 164) hx hb dX5_comesTo_8 (by decide) (fun c3 => ?_) (fun c3 => ?_)
    · have hF := if_p c3 hF
      refine lv_aload_n hx hb dX5_comesTo_164 rfl (lv_at hl 0 rfl) ?_
      obtain ⟨v4, e5, hF⟩ := ob_s hF
      refine m_getR X hp e5 kX5 (Nat.le_of_ble_eq_true rfl) q1480 dX5_comesTo_165 ?_
      refine lv_iconst (v := 0) hx hb dX5_comesTo_168 (by decide) ?_
      obtain ⟨v6, e7, hF⟩ := ob_s hF
      refine m_iaI X hp e7 dX5_comesTo_169 ?_
      cases hF
      exact m_iret X hp dX5_comesTo_170
    · have hF := if_n c3 hF
      refine lv_aload_n hx hb dX5_comesTo_11 rfl (lv_at hl 0 rfl) ?_
      obtain ⟨v8, e9, hF⟩ := ob_s hF
      refine m_getR X hp e9 kX5 (Nat.le_of_ble_eq_true rfl) q1460 dX5_comesTo_12 ?_
      refine lv_sipush (v := 1025) hx hb dX5_comesTo_15 (by decide) ?_
      refine lv_iconst (v := 2) hx hb dX5_comesTo_18 (by decide) ?_
      refine lv_iload hx hb dX5_comesTo_19 (lv_at hl 3 rfl) ?_
      refine lv_imul hx hb dX5_comesTo_21 ?_
      refine lv_iadd hx hb dX5_comesTo_22 ?_
      obtain ⟨v10, e11, hF⟩ := ob_s hF
      refine m_iaI X hp e11 dX5_comesTo_23 ?_
      refine lv_istore (lv' := [(5, .int v10), (0, .ref x0), (2, .int x2), (3, .int x3), (4, .int x4)]) hx hb dX5_comesTo_24 hl (by decide) rfl (fun ls hl => ?_)
      refine lv_aload_n hx hb dX5_comesTo_26 rfl (lv_at hl 1 rfl) ?_
      obtain ⟨v12, e13, hF⟩ := ob_s hF
      refine m_getR X hp e13 kX5 (Nat.le_of_ble_eq_true rfl) q1460 dX5_comesTo_27 ?_
      refine lv_sipush (v := 1025) hx hb dX5_comesTo_30 (by decide) ?_
      refine lv_iconst (v := 2) hx hb dX5_comesTo_33 (by decide) ?_
      refine lv_iload hx hb dX5_comesTo_34 (lv_at hl 4 rfl) ?_
      refine lv_imul hx hb dX5_comesTo_36 ?_
      refine lv_iadd hx hb dX5_comesTo_37 ?_
      refine lv_iconst (v := 1) hx hb dX5_comesTo_38 (by decide) ?_
      refine lv_iadd hx hb dX5_comesTo_39 ?_
      obtain ⟨v14, e15, hF⟩ := ob_s hF
      refine m_iaI X hp e15 dX5_comesTo_40 ?_
      refine lv_istore (lv' := [(6, .int v14), (5, .int v10), (0, .ref x0), (2, .int x2), (3, .int x3), (4, .int x4)]) hx hb dX5_comesTo_41 hl (by decide) rfl (fun ls hl => ?_)
      refine lv_iload hx hb dX5_comesTo_43 (lv_at hl 1 rfl) ?_
      refine lv_iconst (v := 1) hx hb dX5_comesTo_45 (by decide) ?_
      refine lv_icmp_gt (tgt := 78) hx hb dX5_comesTo_46 (by decide) (fun c16 => ?_) (fun c16 => ?_)
      · have hF := if_p c16 hF
        refine lv_iload hx hb dX5_comesTo_78 (lv_at hl 1 rfl) ?_
        refine lv_iconst (v := 5) hx hb dX5_comesTo_80 (by decide) ?_
        refine lv_icmp_ne (tgt := 100) hx hb dX5_comesTo_81 (by decide) (fun c17 => ?_) (fun c17 => ?_)
        · have hF := if_n c17 hF
          refine lv_iload hx hb dX5_comesTo_100 (lv_at hl 1 rfl) ?_
          refine lv_bipush (v := 9) hx hb dX5_comesTo_102 (by decide) ?_
          refine lv_icmp_ne (tgt := 128) hx hb dX5_comesTo_104 (by decide) (fun c18 => ?_) (fun c18 => ?_)
          · have hF := if_n c18 hF
            obtain ⟨v19, ev20⟩ : ∃ y : Int32, y = x3 + (-1 : Int32) := ⟨_, rfl⟩
            have hF := nm_s hF ev20
            refine lv_iinc (v := v19) (lv' := [(3, .int v19), (6, .int v14), (5, .int v10), (0, .ref x0), (2, .int x2), (4, .int x4)]) hx hb dX5_comesTo_128 hl (k := 4) rfl (by rw [ev20]; rfl) (by decide) rfl (fun ls hl => ?_)
            refine lv_aload_n hx hb dX5_comesTo_131 rfl (lv_at hl 3 rfl) ?_
            obtain ⟨v21, e22, hF⟩ := ob_s hF
            refine m_getR X hp e22 kX5 (Nat.le_of_ble_eq_true rfl) q1480 dX5_comesTo_132 ?_
            refine lv_iload_n hx hb dX5_comesTo_135 rfl (lv_at hl 0 rfl) ?_
            refine lv_iconst (v := 1) hx hb dX5_comesTo_136 (by decide) ?_
            refine lv_isub hx hb dX5_comesTo_137 ?_
            refine lv_iload hx hb dX5_comesTo_138 (lv_at hl 2 rfl) ?_
            refine lv_aload_n hx hb dX5_comesTo_140 rfl (lv_at hl 3 rfl) ?_
            obtain ⟨v23, e24, hF⟩ := ob_s hF
            refine m_getR X hp e24 kX5 (Nat.le_of_ble_eq_true rfl) q1480 dX5_comesTo_141 ?_
            refine lv_iload_n hx hb dX5_comesTo_144 rfl (lv_at hl 0 rfl) ?_
            refine lv_iconst (v := 1) hx hb dX5_comesTo_145 (by decide) ?_
            refine lv_isub hx hb dX5_comesTo_146 ?_
            obtain ⟨v25, e26, hF⟩ := ob_s hF
            refine m_iaI X hp e26 dX5_comesTo_147 ?_
            refine lv_aload_n hx hb dX5_comesTo_148 rfl (lv_at hl 3 rfl) ?_
            obtain ⟨v27, e28, hF⟩ := ob_s hF
            refine m_getR X hp e28 kX5 (Nat.le_of_ble_eq_true rfl) q1480 dX5_comesTo_149 ?_
            refine lv_iload_n hx hb dX5_comesTo_152 rfl (lv_at hl 0 rfl) ?_
            obtain ⟨v29, e30, hF⟩ := ob_s hF
            refine m_iaI X hp e30 dX5_comesTo_153 ?_
            obtain ⟨v32, e31, hF⟩ := ob_s hF
            refine m_callS (As := [.int v10, .int v25, .int v29]) (rest := [.int (v19 - (1 : Int32)), .ref v21]) X hp (w_X5_both e31) q1799 q1800 q144 q1801 3 rfl ds_X5_both ⟨Nat.le_of_ble_eq_true rfl, Nat.le_of_ble_eq_true rfl⟩ hl.1 rfl (Nat.le_of_ble_eq_true rfl) dX5_comesTo_154 ⟨Nat.le_refl 0, Nat.le_refl 0⟩ (fun H locs hp => ?_)
            obtain ⟨M33, e34, hF⟩ := ob_s hF
            refine m_iaW X hp e34 dX5_comesTo_157 (fun H locs hp => ?_)
            exact b_X5_comesTo_158 X _ ih _ _ _ _ _ _ _ _ hp (lv_sub hl [3, 4, 0, 5] rfl) hF
          · have hF := if_p c18 hF
            refine lv_aload_n hx hb dX5_comesTo_107 rfl (lv_at hl 2 rfl) ?_
            obtain ⟨v35, e36, hF⟩ := ob_s hF
            refine m_getR X hp e36 kX5 (Nat.le_of_ble_eq_true rfl) q1480 dX5_comesTo_108 ?_
            refine lv_iload_n hx hb dX5_comesTo_111 rfl (lv_at hl 4 rfl) ?_
            refine lv_iconst (v := 1) hx hb dX5_comesTo_112 (by decide) ?_
            refine lv_isub hx hb dX5_comesTo_113 ?_
            refine lv_iconst (v := 1) hx hb dX5_comesTo_114 (by decide) ?_
            refine lv_aload_n hx hb dX5_comesTo_115 rfl (lv_at hl 2 rfl) ?_
            obtain ⟨v37, e38, hF⟩ := ob_s hF
            refine m_getR X hp e38 kX5 (Nat.le_of_ble_eq_true rfl) q1480 dX5_comesTo_116 ?_
            refine lv_iload_n hx hb dX5_comesTo_119 rfl (lv_at hl 4 rfl) ?_
            refine lv_iconst (v := 1) hx hb dX5_comesTo_120 (by decide) ?_
            refine lv_isub hx hb dX5_comesTo_121 ?_
            obtain ⟨v39, e40, hF⟩ := ob_s hF
            refine m_iaI X hp e40 dX5_comesTo_122 ?_
            refine lv_isub hx hb dX5_comesTo_123 ?_
            obtain ⟨M41, e42, hF⟩ := ob_s hF
            refine m_iaW X hp e42 dX5_comesTo_124 (fun H locs hp => ?_)
            refine lv_goto (tgt := 158) hx hb dX5_comesTo_125 (by decide) ?_
            exact b_X5_comesTo_158 X _ ih _ _ _ _ _ _ _ _ hp (lv_sub hl [2, 3, 4, 5] rfl) hF
        · have hF := if_p c17 hF
          refine lv_aload_n hx hb dX5_comesTo_84 rfl (lv_at hl 2 rfl) ?_
          obtain ⟨v43, e44, hF⟩ := ob_s hF
          refine m_getR X hp e44 kX5 (Nat.le_of_ble_eq_true rfl) q1480 dX5_comesTo_85 ?_
          refine lv_iload_n hx hb dX5_comesTo_88 rfl (lv_at hl 4 rfl) ?_
          refine lv_iconst (v := 1) hx hb dX5_comesTo_89 (by decide) ?_
          refine lv_isub hx hb dX5_comesTo_90 ?_
          refine lv_topi (fun v45 ev46 => ?_)
          have hF := nm_s hF ev46
          refine lv_dup2_11 hx hb dX5_comesTo_91 rfl rfl ?_
          obtain ⟨v47, e48, hF⟩ := ob_s hF
          refine m_iaI X hp e48 dX5_comesTo_92 ?_
          refine lv_iload hx hb dX5_comesTo_93 (lv_at hl 0 rfl) ?_
          obtain ⟨g49, hF⟩ := gd_s hF
          refine lv_idiv hx hb dX5_comesTo_95 g49 ?_
          obtain ⟨M50, e51, hF⟩ := ob_s hF
          refine m_iaW X hp e51 dX5_comesTo_96 (fun H locs hp => ?_)
          refine lv_goto (tgt := 158) hx hb dX5_comesTo_97 (by decide) ?_
          exact b_X5_comesTo_158 X _ ih _ _ _ _ _ _ _ _ hp (lv_sub hl [2, 3, 4, 5] rfl) hF
      · have hF := if_n c16 hF
        refine lv_aload_n hx hb dX5_comesTo_49 rfl (lv_at hl 2 rfl) ?_
        obtain ⟨v52, e53, hF⟩ := ob_s hF
        refine m_getR X hp e53 kX5 (Nat.le_of_ble_eq_true rfl) q1480 dX5_comesTo_50 ?_
        refine lv_iload_n hx hb dX5_comesTo_53 rfl (lv_at hl 4 rfl) ?_
        refine lv_iload hx hb dX5_comesTo_54 (lv_at hl 1 rfl) ?_
        refine lv_if_ne (tgt := 64) hx hb dX5_comesTo_56 (by decide) (fun c54 => ?_) (fun c54 => ?_)
        · have hF := if_n c54 hF
          refine lv_aload_n hx hb dX5_comesTo_64 rfl (lv_at hl 2 rfl) ?_
          obtain ⟨v55, e56, hF⟩ := ob_s hF
          refine m_getR X hp e56 kX5 (Nat.le_of_ble_eq_true rfl) q1479 dX5_comesTo_65 ?_
          refine lv_iload hx hb dX5_comesTo_68 (lv_at hl 0 rfl) ?_
          obtain ⟨v57, e58, hF⟩ := ob_s hF
          refine m_iaI X hp e58 dX5_comesTo_70 ?_
          exact b_X5_comesTo_71 X _ ih _ _ _ _ _ _ _ _ _ _ _ hp (lv_sub hl [2, 3, 4, 5] rfl) hF
        · have hF := if_p c54 hF
          refine lv_iload hx hb dX5_comesTo_59 (lv_at hl 0 rfl) ?_
          refine lv_goto (tgt := 71) hx hb dX5_comesTo_61 (by decide) ?_
          exact b_X5_comesTo_71 X _ ih _ _ _ _ _ _ _ _ _ _ _ hp (lv_sub hl [2, 3, 4, 5] rfl) hF
def f_X5_comesTo (S : mSh) (M : mMm) (x0 : Nat) (x1 : Int32) (x2 : Int32) : Option (Int32 × mMm) := nm ((0 : Int32)) fun v1 => (fb_X5_comesTo_5 S FU M x0 x2 v1 x1)
theorem w_X5_comesTo {x0 : Nat} {x1 : Int32} {x2 : Int32} {r : Int32} {M' : mMm} (hF : f_X5_comesTo S M x0 x1 x2 = some (r, M')) : mCt l D n0 P yX5_comesTo cX5_comesTo 7 (some .int) 2 42 0 0 [.ref x0, .int x1, .int x2] S M n (some (.int r)) S M' n := by
  refine m_ofW (by decide) (Nat.le_of_ble_eq_true rfl) (fun p e s m below meth c X hnm hp ls hl => ?_)
  have hx := X.1.1
  have hb := X.1.2.1
  have hown := X.1.2.2.2.1
  have hts := X.1.2.2.2.2
  have hl : lv_has ls 7 [(0, .ref x0), (1, .int x1), (2, .int x2)] := hl
  unfold f_X5_comesTo at hF
  refine lv_iconst (v := 0) hx hb dX5_comesTo_0 (by decide) ?_
  refine lv_topi (fun v1 ev2 => ?_)
  have hF := nm_s hF ev2
  refine lv_istore_n (lv' := [(3, .int v1), (0, .ref x0), (1, .int x1), (2, .int x2)]) hx hb dX5_comesTo_1 rfl hl (by decide) rfl (fun ls hl => ?_)
  refine lv_iload_n hx hb dX5_comesTo_2 rfl (lv_at hl 2 rfl) ?_
  refine lv_istore (lv' := [(4, .int x1), (3, .int v1), (0, .ref x0), (1, .int x1), (2, .int x2)]) hx hb dX5_comesTo_3 hl (by decide) rfl (fun ls hl => ?_)
  exact b_X5_comesTo_5 X _ _ _ _ _ _ _ _ _ hp (lv_sub hl [2, 4, 1, 0] rfl) hF
end
section
variable {l : Launch} {D : va_G} {n0 : Nat} {P : mP} {S : mSh} {M : mMm} {n : Nat} {p : Program} {e : Env} {s : State} {m : MethodId} {args : Array Value} {below : List Frame} {meth : Method} {c : Code}
abbrev Rm_X5_tells : Room := { frames := 3, cells := 0, slots := 0, locals := 68 }
def fb_X5_tells_185 (S : mSh) (M : mMm) (x3 : Int32) (y0 : Int32) : Option (Int32 × mMm) := (if 0 ≤ x3 then (if x3 ≤ y0 then some (x3, M) else some (y0, M)) else some ((0 : Int32), M))
theorem b_X5_tells_185 {r : Int32} {M' : mMm} (X : mCx D n0 P p m c cX5_tells 6 s args yX5_tells.cls meth (some .int)) : ∀ (M : mMm) (x3 : Int32) (y0 : Int32) (H : Heap) (locs : List Loc) (ls : Array Slot), mHp D n0 S M n s H locs → lv_has ls 6 [(3, .int x3)] → fb_X5_tells_185 S M x3 y0 = some (r, M') → W p l e Rm_X5_tells s m args below meth c H locs 0 0 (MQ below (mQ D n0 (some (.int r)) S M' n) args s 0 0 (mA n0)) (F0 m 185 ls [.int y0]) := by
  have hx := X.1.1
  have hb := X.1.2.1
  have hown := X.1.2.2.2.1
  have hts := X.1.2.2.2.2
  intro M x3 y0 H locs ls hp hl hF
  unfold fb_X5_tells_185 at hF
  refine lv_istore (lv' := [(4, .int y0), (3, .int x3)]) hx hb dX5_tells_185 hl (by decide) rfl (fun ls hl => ?_)
  refine lv_iload_n hx hb dX5_tells_187 rfl (lv_at hl 1 rfl) ?_
  refine lv_if_ge (tgt := 195) hx hb dX5_tells_188 (by decide) (fun c68 => ?_) (fun c68 => ?_)
  · have hF := if_p c68 hF
    refine lv_iload_n hx hb dX5_tells_195 rfl (lv_at hl 1 rfl) ?_
    refine lv_iload hx hb dX5_tells_196 (lv_at hl 0 rfl) ?_
    refine lv_icmp_le (tgt := 206) hx hb dX5_tells_198 (by decide) (fun c69 => ?_) (fun c69 => ?_)
    · have hF := if_p c69 hF
      refine lv_iload_n hx hb dX5_tells_206 rfl (lv_at hl 1 rfl) ?_
      cases hF
      exact m_iret X hp dX5_tells_207
    · have hF := if_n c69 hF
      refine lv_iload hx hb dX5_tells_201 (lv_at hl 0 rfl) ?_
      refine lv_goto (tgt := 207) hx hb dX5_tells_203 (by decide) ?_
      cases hF
      exact m_iret X hp dX5_tells_207
  · have hF := if_n c68 hF
    refine lv_iconst (v := 0) hx hb dX5_tells_191 (by decide) ?_
    refine lv_goto (tgt := 207) hx hb dX5_tells_192 (by decide) ?_
    cases hF
    exact m_iret X hp dX5_tells_207
def fb_X5_tells_172 (S : mSh) (M : mMm) (x1 : Int32) (x3 : Int32) : Option (Int32 × mMm) := (if x1 = (2 : Int32) then (fb_X5_tells_185 S M x3 (99 : Int32)) else (fb_X5_tells_185 S M x3 (1000 : Int32)))
theorem b_X5_tells_172 {r : Int32} {M' : mMm} (X : mCx D n0 P p m c cX5_tells 6 s args yX5_tells.cls meth (some .int)) : ∀ (M : mMm) (x1 : Int32) (x3 : Int32) (H : Heap) (locs : List Loc) (ls : Array Slot), mHp D n0 S M n s H locs → lv_has ls 6 [(1, .int x1), (3, .int x3)] → fb_X5_tells_172 S M x1 x3 = some (r, M') → W p l e Rm_X5_tells s m args below meth c H locs 0 0 (MQ below (mQ D n0 (some (.int r)) S M' n) args s 0 0 (mA n0)) (F0 m 172 ls []) := by
  have hx := X.1.1
  have hb := X.1.2.1
  have hown := X.1.2.2.2.1
  have hts := X.1.2.2.2.2
  intro M x1 x3 H locs ls hp hl hF
  unfold fb_X5_tells_172 at hF
  refine lv_iload_n hx hb dX5_tells_172 rfl (lv_at hl 0 rfl) ?_
  refine lv_iconst (v := 2) hx hb dX5_tells_173 (by decide) ?_
  refine lv_icmp_ne (tgt := 182) hx hb dX5_tells_174 (by decide) (fun c67 => ?_) (fun c67 => ?_)
  · have hF := if_n c67 hF
    refine lv_sipush (v := 1000) hx hb dX5_tells_182 (by decide) ?_
    exact b_X5_tells_185 X _ _ _ _ _ _ hp (lv_sub hl [1] rfl) hF
  · have hF := if_p c67 hF
    refine lv_bipush (v := 99) hx hb dX5_tells_177 (by decide) ?_
    refine lv_goto (tgt := 185) hx hb dX5_tells_179 (by decide) ?_
    exact b_X5_tells_185 X _ _ _ _ _ _ hp (lv_sub hl [1] rfl) hF
def fb_X5_tells_140 (S : mSh) (M : mMm) (x0 : Nat) (x1 : Int32) (x5 : Int32) : Option (Int32 × mMm) := ob (rR S M x0 6 1) fun v54 => ob (aI S M v54 100 (x5 + (1 : Int32))) fun v56 => ob (rR S M x0 6 1) fun v58 => ob (aI S M v58 100 (x5 + (2 : Int32))) fun v60 => ob (f_X5_comesTo S M x0 v56 v60) fun ⟨v63, M64⟩ => (fb_X5_tells_172 S M64 x1 v63)
theorem b_X5_tells_140 {r : Int32} {M' : mMm} (X : mCx D n0 P p m c cX5_tells 6 s args yX5_tells.cls meth (some .int)) : ∀ (M : mMm) (x0 : Nat) (x1 : Int32) (x5 : Int32) (H : Heap) (locs : List Loc) (ls : Array Slot), mHp D n0 S M n s H locs → lv_has ls 6 [(0, .ref x0), (1, .int x1), (5, .int x5)] → fb_X5_tells_140 S M x0 x1 x5 = some (r, M') → W p l e Rm_X5_tells s m args below meth c H locs 0 0 (MQ below (mQ D n0 (some (.int r)) S M' n) args s 0 0 (mA n0)) (F0 m 140 ls []) := by
  have hx := X.1.1
  have hb := X.1.2.1
  have hown := X.1.2.2.2.1
  have hts := X.1.2.2.2.2
  intro M x0 x1 x5 H locs ls hp hl hF
  unfold fb_X5_tells_140 at hF
  refine lv_aload_n hx hb dX5_tells_140 rfl (lv_at hl 0 rfl) ?_
  refine lv_aload_n hx hb dX5_tells_141 rfl (lv_at hl 0 rfl) ?_
  obtain ⟨v54, e55, hF⟩ := ob_s hF
  refine m_getR X hp e55 kX5 (Nat.le_of_ble_eq_true rfl) q1460 dX5_tells_142 ?_
  refine lv_iload hx hb dX5_tells_145 (lv_at hl 2 rfl) ?_
  refine lv_iconst (v := 1) hx hb dX5_tells_147 (by decide) ?_
  refine lv_iadd hx hb dX5_tells_148 ?_
  obtain ⟨v56, e57, hF⟩ := ob_s hF
  refine m_iaI X hp e57 dX5_tells_149 ?_
  refine lv_aload_n hx hb dX5_tells_150 rfl (lv_at hl 0 rfl) ?_
  obtain ⟨v58, e59, hF⟩ := ob_s hF
  refine m_getR X hp e59 kX5 (Nat.le_of_ble_eq_true rfl) q1460 dX5_tells_151 ?_
  refine lv_iload hx hb dX5_tells_154 (lv_at hl 2 rfl) ?_
  refine lv_iconst (v := 2) hx hb dX5_tells_156 (by decide) ?_
  refine lv_iadd hx hb dX5_tells_157 ?_
  obtain ⟨v60, e61, hF⟩ := ob_s hF
  refine m_iaI X hp e61 dX5_tells_158 ?_
  obtain ⟨⟨v63, M64⟩, e62, hF⟩ := ob_s hF
  refine m_callV (As := [.int v56, .int v60]) (rest := []) X hp (w_X5_comesTo e62) q1795 q1797 qs103 q144 q1798 2 rfl ds_X5_comesTo ⟨Nat.le_of_ble_eq_true rfl, Nat.le_of_ble_eq_true rfl⟩ 6 (T := TX5) (N := 40) rfl (by decide) (rR_s e59).1 hl.1 rfl (Nat.le_of_ble_eq_true rfl) dX5_tells_159 ⟨Nat.le_refl 0, Nat.le_refl 0⟩ (fun H locs hp => ?_)
  refine lv_istore_n (lv' := [(3, .int v63), (0, .ref x0), (1, .int x1), (5, .int x5)]) hx hb dX5_tells_162 rfl hl (by decide) rfl (fun ls hl => ?_)
  refine lv_goto (tgt := 172) hx hb dX5_tells_163 (by decide) ?_
  exact b_X5_tells_172 X _ _ _ _ _ _ hp (lv_sub hl [2, 0] rfl) hF
def fb_X5_tells_166 (S : mSh) (k65 : mMm → Nat → Int32 → Int32 → Int32 → Option (Int32 × mMm)) (M : mMm) (x0 : Nat) (x1 : Int32) (x3 : Int32) (x4 : Int32) : Option (Int32 × mMm) := nm (x4 + (1 : Int32)) fun v65 => (k65 M x0 x1 x3 v65)
theorem b_X5_tells_166 {r : Int32} {M' : mMm} (X : mCx D n0 P p m c cX5_tells 6 s args yX5_tells.cls meth (some .int)) (k65 : mMm → Nat → Int32 → Int32 → Int32 → Option (Int32 × mMm)) (hk65 : ∀ (M : mMm) (x0 : Nat) (x1 : Int32) (x3 : Int32) (x4 : Int32) (H : Heap) (locs : List Loc) (ls : Array Slot), mHp D n0 S M n s H locs → lv_has ls 6 [(0, .ref x0), (1, .int x1), (3, .int x3), (4, .int x4)] → k65 M x0 x1 x3 x4 = some (r, M') → W p l e Rm_X5_tells s m args below meth c H locs 0 0 (MQ below (mQ D n0 (some (.int r)) S M' n) args s 0 0 (mA n0)) (F0 m 65 ls [])) : ∀ (M : mMm) (x0 : Nat) (x1 : Int32) (x3 : Int32) (x4 : Int32) (H : Heap) (locs : List Loc) (ls : Array Slot), mHp D n0 S M n s H locs → lv_has ls 6 [(0, .ref x0), (1, .int x1), (3, .int x3), (4, .int x4)] → fb_X5_tells_166 S k65 M x0 x1 x3 x4 = some (r, M') → W p l e Rm_X5_tells s m args below meth c H locs 0 0 (MQ below (mQ D n0 (some (.int r)) S M' n) args s 0 0 (mA n0)) (F0 m 166 ls []) := by
  have hx := X.1.1
  have hb := X.1.2.1
  have hown := X.1.2.2.2.1
  have hts := X.1.2.2.2.2
  intro M x0 x1 x3 x4 H locs ls hp hl hF
  unfold fb_X5_tells_166 at hF
  obtain ⟨v65, ev66⟩ : ∃ y : Int32, y = x4 + (1 : Int32) := ⟨_, rfl⟩
  have hF := nm_s hF ev66
  refine lv_iinc (v := v65) (lv' := [(4, .int v65), (0, .ref x0), (1, .int x1), (3, .int x3)]) hx hb dX5_tells_166 hl (k := 3) rfl (by rw [ev66]; rfl) (by decide) rfl (fun ls hl => ?_)
  refine lv_goto (tgt := 65) hx hb dX5_tells_169 (by decide) ?_
  exact hk65 _ _ _ _ _ _ _ _ hp (lv_sub hl [1, 2, 3, 0] rfl) hF
def fb_X5_tells_65 (S : mSh) : Nat → mMm → Nat → Int32 → Int32 → Int32 → Option (Int32 × mMm)
  | 0, _, _, _, _, _ => none
  | t + 1, M, x0, x1, x3, x4 => ob (rR S M x0 6 1) fun v25 => ob (aI S M v25 100 (941 : Int32)) fun v27 => (if v27 ≤ x4 then (fb_X5_tells_172 S M x1 x3) else nm (((945 : Int32) + ((5 : Int32) * x4))) fun v30 => ob (rR S M x0 6 1) fun v32 => ob (aI S M v32 100 v30) fun v34 => (if v34 = x1 then ob (rR S M x0 6 1) fun v37 => ob (aI S M v37 100 (v30 + (4 : Int32))) fun v39 => (if v39 = (-1 : Int32) then (fb_X5_tells_140 S M x0 x1 v30) else ob (rR S M x0 6 1) fun v42 => ob (aI S M v42 100 (v30 + (3 : Int32))) fun v44 => ob (rR S M x0 6 1) fun v46 => ob (aI S M v46 100 (v30 + (4 : Int32))) fun v48 => ob (f_X5_comesTo S M x0 v44 v48) fun ⟨v51, M52⟩ => (if v51 = 0 then (fb_X5_tells_166 S (fb_X5_tells_65 S t) M52 x0 x1 x3 x4) else (fb_X5_tells_140 S M52 x0 x1 v30))) else (fb_X5_tells_166 S (fb_X5_tells_65 S t) M x0 x1 x3 x4)))
theorem b_X5_tells_65 {r : Int32} {M' : mMm} (X : mCx D n0 P p m c cX5_tells 6 s args yX5_tells.cls meth (some .int)) : ∀ t : Nat, ∀ (M : mMm) (x0 : Nat) (x1 : Int32) (x3 : Int32) (x4 : Int32) (H : Heap) (locs : List Loc) (ls : Array Slot), mHp D n0 S M n s H locs → lv_has ls 6 [(0, .ref x0), (1, .int x1), (3, .int x3), (4, .int x4)] → fb_X5_tells_65 S t M x0 x1 x3 x4 = some (r, M') → W p l e Rm_X5_tells s m args below meth c H locs 0 0 (MQ below (mQ D n0 (some (.int r)) S M' n) args s 0 0 (mA n0)) (F0 m 65 ls []) := by
  have hx := X.1.1
  have hb := X.1.2.1
  have hown := X.1.2.2.2.1
  have hts := X.1.2.2.2.2
  intro t
  induction t with
  | zero =>
    intro M x0 x1 x3 x4 H locs ls hp hl hF
    have hF : none = some (r, M') := hF
    cases hF
  | succ t ih =>
    intro M x0 x1 x3 x4 H locs ls hp hl hF
    rw [fb_X5_tells_65] at hF
    refine lv_iload hx hb dX5_tells_65 (lv_at hl 3 rfl) ?_
    refine lv_aload_n hx hb dX5_tells_67 rfl (lv_at hl 0 rfl) ?_
    obtain ⟨v25, e26, hF⟩ := ob_s hF
    refine m_getR X hp e26 kX5 (Nat.le_of_ble_eq_true rfl) q1460 dX5_tells_68 ?_
    refine lv_sipush (v := 941) hx hb dX5_tells_71 (by decide) ?_
    obtain ⟨v27, e28, hF⟩ := ob_s hF
    refine m_iaI X hp e28 dX5_tells_74 ?_
    refine lv_icmp_ge (tgt := 172) hx hb dX5_tells_75 (by decide) (fun c29 => ?_) (fun c29 => ?_)
    · have hF := if_p c29 hF
      exact b_X5_tells_172 X _ _ _ _ _ _ hp (lv_sub hl [1, 2] rfl) hF
    · have hF := if_n c29 hF
      refine lv_sipush (v := 945) hx hb dX5_tells_78 (by decide) ?_
      refine lv_iconst (v := 5) hx hb dX5_tells_81 (by decide) ?_
      refine lv_iload hx hb dX5_tells_82 (lv_at hl 3 rfl) ?_
      refine lv_imul hx hb dX5_tells_84 ?_
      refine lv_iadd hx hb dX5_tells_85 ?_
      refine lv_topi (fun v30 ev31 => ?_)
      have hF := nm_s hF ev31
      refine lv_istore (lv' := [(5, .int v30), (0, .ref x0), (1, .int x1), (3, .int x3), (4, .int x4)]) hx hb dX5_tells_86 hl (by decide) rfl (fun ls hl => ?_)
      refine lv_aload_n hx hb dX5_tells_88 rfl (lv_at hl 1 rfl) ?_
      obtain ⟨v32, e33, hF⟩ := ob_s hF
      refine m_getR X hp e33 kX5 (Nat.le_of_ble_eq_true rfl) q1460 dX5_tells_89 ?_
      refine lv_iload hx hb dX5_tells_92 (lv_at hl 0 rfl) ?_
      obtain ⟨v34, e35, hF⟩ := ob_s hF
      refine m_iaI X hp e35 dX5_tells_94 ?_
      refine lv_iload_n hx hb dX5_tells_95 rfl (lv_at hl 2 rfl) ?_
      refine lv_icmp_ne (tgt := 166) hx hb dX5_tells_96 (by decide) (fun c36 => ?_) (fun c36 => ?_)
      · have hF := if_n c36 hF
        exact b_X5_tells_166 X _ ih _ _ _ _ _ _ _ _ hp (lv_sub hl [1, 2, 3, 4] rfl) hF
      · have hF := if_p c36 hF
        refine lv_aload_n hx hb dX5_tells_99 rfl (lv_at hl 1 rfl) ?_
        obtain ⟨v37, e38, hF⟩ := ob_s hF
        refine m_getR X hp e38 kX5 (Nat.le_of_ble_eq_true rfl) q1460 dX5_tells_100 ?_
        refine lv_iload hx hb dX5_tells_103 (lv_at hl 0 rfl) ?_
        refine lv_iconst (v := 4) hx hb dX5_tells_105 (by decide) ?_
        refine lv_iadd hx hb dX5_tells_106 ?_
        obtain ⟨v39, e40, hF⟩ := ob_s hF
        refine m_iaI X hp e40 dX5_tells_107 ?_
        refine lv_iconst (v := -1) hx hb dX5_tells_108 (by decide) ?_
        refine lv_icmp_eq (tgt := 140) hx hb dX5_tells_109 (by decide) (fun c41 => ?_) (fun c41 => ?_)
        · have hF := if_p c41 hF
          exact b_X5_tells_140 X _ _ _ _ _ _ _ hp (lv_sub hl [1, 2, 0] rfl) hF
        · have hF := if_n c41 hF
          refine lv_aload_n hx hb dX5_tells_112 rfl (lv_at hl 1 rfl) ?_
          refine lv_aload_n hx hb dX5_tells_113 rfl (lv_at hl 1 rfl) ?_
          obtain ⟨v42, e43, hF⟩ := ob_s hF
          refine m_getR X hp e43 kX5 (Nat.le_of_ble_eq_true rfl) q1460 dX5_tells_114 ?_
          refine lv_iload hx hb dX5_tells_117 (lv_at hl 0 rfl) ?_
          refine lv_iconst (v := 3) hx hb dX5_tells_119 (by decide) ?_
          refine lv_iadd hx hb dX5_tells_120 ?_
          obtain ⟨v44, e45, hF⟩ := ob_s hF
          refine m_iaI X hp e45 dX5_tells_121 ?_
          refine lv_aload_n hx hb dX5_tells_122 rfl (lv_at hl 1 rfl) ?_
          obtain ⟨v46, e47, hF⟩ := ob_s hF
          refine m_getR X hp e47 kX5 (Nat.le_of_ble_eq_true rfl) q1460 dX5_tells_123 ?_
          refine lv_iload hx hb dX5_tells_126 (lv_at hl 0 rfl) ?_
          refine lv_iconst (v := 4) hx hb dX5_tells_128 (by decide) ?_
          refine lv_iadd hx hb dX5_tells_129 ?_
          obtain ⟨v48, e49, hF⟩ := ob_s hF
          refine m_iaI X hp e49 dX5_tells_130 ?_
          obtain ⟨⟨v51, M52⟩, e50, hF⟩ := ob_s hF
          refine m_callV (As := [.int v44, .int v48]) (rest := []) X hp (w_X5_comesTo e50) q1795 q1797 qs103 q144 q1798 2 rfl ds_X5_comesTo ⟨Nat.le_of_ble_eq_true rfl, Nat.le_of_ble_eq_true rfl⟩ 6 (T := TX5) (N := 40) rfl (by decide) (rR_s e47).1 hl.1 rfl (Nat.le_of_ble_eq_true rfl) dX5_tells_131 ⟨Nat.le_refl 0, Nat.le_refl 0⟩ (fun H locs hp => ?_)
          refine lv_if_ne (tgt := 140) hx hb dX5_tells_134 (by decide) (fun c53 => ?_) (fun c53 => ?_)
          · have hF := if_n c53 hF
            exact b_X5_tells_140 X _ _ _ _ _ _ _ hp (lv_sub hl [1, 2, 0] rfl) hF
          · have hF := if_p c53 hF
            refine lv_goto (tgt := 166) hx hb dX5_tells_137 (by decide) ?_
            exact b_X5_tells_166 X _ ih _ _ _ _ _ _ _ _ hp (lv_sub hl [1, 2, 3, 4] rfl) hF
def fb_X5_tells_61 (S : mSh) (M : mMm) (x0 : Nat) (x1 : Int32) (y0 : Int32) : Option (Int32 × mMm) := nm ((0 : Int32)) fun v23 => (fb_X5_tells_65 S FU M x0 x1 y0 v23)
theorem b_X5_tells_61 {r : Int32} {M' : mMm} (X : mCx D n0 P p m c cX5_tells 6 s args yX5_tells.cls meth (some .int)) : ∀ (M : mMm) (x0 : Nat) (x1 : Int32) (y0 : Int32) (H : Heap) (locs : List Loc) (ls : Array Slot), mHp D n0 S M n s H locs → lv_has ls 6 [(0, .ref x0), (1, .int x1)] → fb_X5_tells_61 S M x0 x1 y0 = some (r, M') → W p l e Rm_X5_tells s m args below meth c H locs 0 0 (MQ below (mQ D n0 (some (.int r)) S M' n) args s 0 0 (mA n0)) (F0 m 61 ls [.int y0]) := by
  have hx := X.1.1
  have hb := X.1.2.1
  have hown := X.1.2.2.2.1
  have hts := X.1.2.2.2.2
  intro M x0 x1 y0 H locs ls hp hl hF
  unfold fb_X5_tells_61 at hF
  refine lv_istore_n (lv' := [(3, .int y0), (0, .ref x0), (1, .int x1)]) hx hb dX5_tells_61 rfl hl (by decide) rfl (fun ls hl => ?_)
  refine lv_iconst (v := 0) hx hb dX5_tells_62 (by decide) ?_
  refine lv_topi (fun v23 ev24 => ?_)
  have hF := nm_s hF ev24
  refine lv_istore (lv' := [(4, .int v23), (3, .int y0), (0, .ref x0), (1, .int x1)]) hx hb dX5_tells_63 hl (by decide) rfl (fun ls hl => ?_)
  exact b_X5_tells_65 X _ _ _ _ _ _ _ _ _ hp (lv_sub hl [2, 3, 1, 0] rfl) hF
def f_X5_tells (S : mSh) (M : mMm) (x0 : Nat) (x1 : Int32) (x2 : Int32) : Option (Int32 × mMm) := gd ((S x0).1 = 6) (ob (f_X5_laysFacts S M x0 x2) fun M4 => (if x1 = 0 then ob (rR S M4 x0 6 20) fun v15 => ob (aI S M4 v15 100 (6 : Int32)) fun v17 => ob (rR S M4 x0 6 20) fun v19 => ob (aI S M4 v19 100 (0 : Int32)) fun v21 => (fb_X5_tells_61 S M4 x0 x1 (((300 : Int32) * v17) + ((20 : Int32) * v21))) else (if x1 = (1 : Int32) then ob (rR S M4 x0 6 20) fun v11 => ob (aI S M4 v11 100 (8 : Int32)) fun v13 => (fb_X5_tells_61 S M4 x0 x1 ((200 : Int32) * v13)) else ob (rR S M4 x0 6 20) fun v7 => ob (aI S M4 v7 100 (1 : Int32)) fun v9 => (fb_X5_tells_61 S M4 x0 x1 ((10 : Int32) - v9)))))
theorem w_X5_tells {x0 : Nat} {x1 : Int32} {x2 : Int32} {r : Int32} {M' : mMm} (hF : f_X5_tells S M x0 x1 x2 = some (r, M')) : mCt l D n0 P yX5_tells cX5_tells 6 (some .int) 3 68 0 0 [.ref x0, .int x1, .int x2] S M n (some (.int r)) S M' n := by
  refine m_ofW (by decide) (Nat.le_of_ble_eq_true rfl) (fun p e s m below meth c X hnm hp ls hl => ?_)
  have hx := X.1.1
  have hb := X.1.2.1
  have hown := X.1.2.2.2.1
  have hts := X.1.2.2.2.2
  have hl : lv_has ls 6 [(0, .ref x0), (1, .int x1), (2, .int x2)] := hl
  unfold f_X5_tells at hF
  refine lv_aload_n hx hb dX5_tells_0 rfl (lv_at hl 0 rfl) ?_
  refine lv_iload_n hx hb dX5_tells_1 rfl (lv_at hl 2 rfl) ?_
  obtain ⟨g1, hF⟩ := gd_s hF
  obtain ⟨M4, e2, hF⟩ := ob_s hF
  refine m_callV (As := [.int x2]) (rest := []) X hp (w_X5_laysFacts e2) q1783 q1785 qs100 q144 q1786 1 rfl ds_X5_laysFacts ⟨Nat.le_of_ble_eq_true rfl, Nat.le_of_ble_eq_true rfl⟩ 6 (T := TX5) (N := 40) rfl (by decide) g1 hl.1 rfl (Nat.le_of_ble_eq_true rfl) dX5_tells_2 ⟨Nat.le_refl 0, Nat.le_refl 0⟩ (fun H locs hp => ?_)
  refine lv_iload_n hx hb dX5_tells_5 rfl (lv_at hl 1 rfl) ?_
  refine lv_if_ne (tgt := 33) hx hb dX5_tells_6 (by decide) (fun c5 => ?_) (fun c5 => ?_)
  · have hF := if_n c5 hF
    refine lv_iload_n hx hb dX5_tells_33 rfl (lv_at hl 1 rfl) ?_
    refine lv_iconst (v := 1) hx hb dX5_tells_34 (by decide) ?_
    refine lv_icmp_ne (tgt := 52) hx hb dX5_tells_35 (by decide) (fun c6 => ?_) (fun c6 => ?_)
    · have hF := if_n c6 hF
      refine lv_bipush (v := 10) hx hb dX5_tells_52 (by decide) ?_
      refine lv_aload_n hx hb dX5_tells_54 rfl (lv_at hl 0 rfl) ?_
      obtain ⟨v7, e8, hF⟩ := ob_s hF
      refine m_getR X hp e8 kX5 (Nat.le_of_ble_eq_true rfl) q1479 dX5_tells_55 ?_
      refine lv_iconst (v := 1) hx hb dX5_tells_58 (by decide) ?_
      obtain ⟨v9, e10, hF⟩ := ob_s hF
      refine m_iaI X hp e10 dX5_tells_59 ?_
      refine lv_isub hx hb dX5_tells_60 ?_
      exact b_X5_tells_61 X _ _ _ _ _ _ _ hp (lv_sub hl [0, 1] rfl) hF
    · have hF := if_p c6 hF
      refine lv_sipush (v := 200) hx hb dX5_tells_38 (by decide) ?_
      refine lv_aload_n hx hb dX5_tells_41 rfl (lv_at hl 0 rfl) ?_
      obtain ⟨v11, e12, hF⟩ := ob_s hF
      refine m_getR X hp e12 kX5 (Nat.le_of_ble_eq_true rfl) q1479 dX5_tells_42 ?_
      refine lv_bipush (v := 8) hx hb dX5_tells_45 (by decide) ?_
      obtain ⟨v13, e14, hF⟩ := ob_s hF
      refine m_iaI X hp e14 dX5_tells_47 ?_
      refine lv_imul hx hb dX5_tells_48 ?_
      refine lv_goto (tgt := 61) hx hb dX5_tells_49 (by decide) ?_
      exact b_X5_tells_61 X _ _ _ _ _ _ _ hp (lv_sub hl [0, 1] rfl) hF
  · have hF := if_p c5 hF
    refine lv_sipush (v := 300) hx hb dX5_tells_9 (by decide) ?_
    refine lv_aload_n hx hb dX5_tells_12 rfl (lv_at hl 0 rfl) ?_
    obtain ⟨v15, e16, hF⟩ := ob_s hF
    refine m_getR X hp e16 kX5 (Nat.le_of_ble_eq_true rfl) q1479 dX5_tells_13 ?_
    refine lv_bipush (v := 6) hx hb dX5_tells_16 (by decide) ?_
    obtain ⟨v17, e18, hF⟩ := ob_s hF
    refine m_iaI X hp e18 dX5_tells_18 ?_
    refine lv_imul hx hb dX5_tells_19 ?_
    refine lv_bipush (v := 20) hx hb dX5_tells_20 (by decide) ?_
    refine lv_aload_n hx hb dX5_tells_22 rfl (lv_at hl 0 rfl) ?_
    obtain ⟨v19, e20, hF⟩ := ob_s hF
    refine m_getR X hp e20 kX5 (Nat.le_of_ble_eq_true rfl) q1479 dX5_tells_23 ?_
    refine lv_iconst (v := 0) hx hb dX5_tells_26 (by decide) ?_
    obtain ⟨v21, e22, hF⟩ := ob_s hF
    refine m_iaI X hp e22 dX5_tells_27 ?_
    refine lv_imul hx hb dX5_tells_28 ?_
    refine lv_iadd hx hb dX5_tells_29 ?_
    refine lv_goto (tgt := 61) hx hb dX5_tells_30 (by decide) ?_
    exact b_X5_tells_61 X _ _ _ _ _ _ _ hp (lv_sub hl [0, 1] rfl) hF
end
section
variable {l : Launch} {D : va_G} {n0 : Nat} {P : mP} {S : mSh} {M : mMm} {n : Nat} {p : Program} {e : Env} {s : State} {m : MethodId} {args : Array Value} {below : List Frame} {meth : Method} {c : Code}
abbrev Rm_X5_draws : Room := { frames := 0, cells := 0, slots := 0, locals := 0 }
def f_X5_draws (S : mSh) (M : mMm) (x0 : Nat) (x1 : Int32) : Option (Int32 × mMm) := ob (rR S M x0 6 1) fun v1 => ob (rR S M x0 6 1) fun v3 => ob (aI S M v3 100 (938 : Int32)) fun v5 => ob (wA S M v1 100 (938 : Int32) (.int (((1664525 : Int32) * v5) + (1013904223 : Int32)))) fun M7 => ob (rR S M7 x0 6 1) fun v9 => ob (aI S M7 v9 100 (938 : Int32)) fun v11 => gd (¬ x1 = 0) (some (((v11.toUInt32 >>> ((8 : Int32).toUInt32 &&& Int32.toUInt32 31)).toInt32 - (v11.toUInt32 >>> ((8 : Int32).toUInt32 &&& Int32.toUInt32 31)).toInt32 / x1 * x1), M7))
theorem w_X5_draws {x0 : Nat} {x1 : Int32} {r : Int32} {M' : mMm} (hF : f_X5_draws S M x0 x1 = some (r, M')) : mCt l D n0 P yX5_draws cX5_draws 2 (some .int) 0 0 0 0 [.ref x0, .int x1] S M n (some (.int r)) S M' n := by
  refine m_ofW (by decide) (Nat.le_of_ble_eq_true rfl) (fun p e s m below meth c X hnm hp ls hl => ?_)
  have hx := X.1.1
  have hb := X.1.2.1
  have hown := X.1.2.2.2.1
  have hts := X.1.2.2.2.2
  have hl : lv_has ls 2 [(0, .ref x0), (1, .int x1)] := hl
  unfold f_X5_draws at hF
  refine lv_aload_n hx hb dX5_draws_0 rfl (lv_at hl 0 rfl) ?_
  obtain ⟨v1, e2, hF⟩ := ob_s hF
  refine m_getR X hp e2 kX5 (Nat.le_of_ble_eq_true rfl) q1460 dX5_draws_1 ?_
  refine lv_sipush (v := 938) hx hb dX5_draws_4 (by decide) ?_
  refine lv_ldc hx hb hown (hts _ q1813) dX5_draws_7 ?_
  refine lv_aload_n hx hb dX5_draws_9 rfl (lv_at hl 0 rfl) ?_
  obtain ⟨v3, e4, hF⟩ := ob_s hF
  refine m_getR X hp e4 kX5 (Nat.le_of_ble_eq_true rfl) q1460 dX5_draws_10 ?_
  refine lv_sipush (v := 938) hx hb dX5_draws_13 (by decide) ?_
  obtain ⟨v5, e6, hF⟩ := ob_s hF
  refine m_iaI X hp e6 dX5_draws_16 ?_
  refine lv_imul hx hb dX5_draws_17 ?_
  refine lv_ldc hx hb hown (hts _ q1814) dX5_draws_18 ?_
  refine lv_iadd hx hb dX5_draws_20 ?_
  obtain ⟨M7, e8, hF⟩ := ob_s hF
  refine m_iaW X hp e8 dX5_draws_21 (fun H locs hp => ?_)
  refine lv_aload_n hx hb dX5_draws_22 rfl (lv_at hl 0 rfl) ?_
  obtain ⟨v9, e10, hF⟩ := ob_s hF
  refine m_getR X hp e10 kX5 (Nat.le_of_ble_eq_true rfl) q1460 dX5_draws_23 ?_
  refine lv_sipush (v := 938) hx hb dX5_draws_26 (by decide) ?_
  obtain ⟨v11, e12, hF⟩ := ob_s hF
  refine m_iaI X hp e12 dX5_draws_29 ?_
  refine lv_bipush (v := 8) hx hb dX5_draws_30 (by decide) ?_
  refine lv_iushr hx hb dX5_draws_32 rfl ?_
  refine lv_iload_n hx hb dX5_draws_33 rfl (lv_at hl 1 rfl) ?_
  obtain ⟨g13, hF⟩ := gd_s hF
  refine lv_irem hx hb dX5_draws_34 g13 ?_
  cases hF
  exact m_iret X hp dX5_draws_35
end
section
variable {l : Launch} {D : va_G} {n0 : Nat} {P : mP} {S : mSh} {M : mMm} {n : Nat} {p : Program} {e : Env} {s : State} {m : MethodId} {args : Array Value} {below : List Frame} {meth : Method} {c : Code}
abbrev Rm_X5_falls : Room := { frames := 1, cells := 0, slots := 0, locals := 21 }
def f_X5_falls (S : mSh) (M : mMm) (x0 : Nat) (x1 : Int32) : Option (Int32 × mMm) := (if x1 ≤ 0 then some ((0 : Int32), M) else ob (rI S M x0 6 6) fun v2 => (if v2 = 0 then ob (f_X5_draws S M x0 (1000 : Int32)) fun ⟨v6, M7⟩ => (if x1 ≤ v6 then some ((0 : Int32), M7) else some ((1 : Int32), M7)) else (if x1 < (500 : Int32) then some ((0 : Int32), M) else some ((1 : Int32), M))))
theorem w_X5_falls {x0 : Nat} {x1 : Int32} {r : Int32} {M' : mMm} (hF : f_X5_falls S M x0 x1 = some (r, M')) : mCt l D n0 P yX5_falls cX5_falls 2 (some .boolean) 1 21 0 0 [.ref x0, .int x1] S M n (some (.int r)) S M' n := by
  refine m_ofW (by decide) (Nat.le_of_ble_eq_true rfl) (fun p e s m below meth c X hnm hp ls hl => ?_)
  have hx := X.1.1
  have hb := X.1.2.1
  have hown := X.1.2.2.2.1
  have hts := X.1.2.2.2.2
  have hl : lv_has ls 2 [(0, .ref x0), (1, .int x1)] := hl
  unfold f_X5_falls at hF
  refine lv_iload_n hx hb dX5_falls_0 rfl (lv_at hl 1 rfl) ?_
  refine lv_if_le (tgt := 36) hx hb dX5_falls_1 (by decide) (fun c1 => ?_) (fun c1 => ?_)
  · have hF := if_p c1 hF
    refine lv_iconst (v := 0) hx hb dX5_falls_36 (by decide) ?_
    cases hF
    exact m_zret X hp rfl dX5_falls_37
  · have hF := if_n c1 hF
    refine lv_aload_n hx hb dX5_falls_4 rfl (lv_at hl 0 rfl) ?_
    obtain ⟨v2, e3, hF⟩ := ob_s hF
    refine m_getI X hp e3 kX5 (Nat.le_of_ble_eq_true rfl) q1465 dX5_falls_5 ?_
    refine lv_if_eq (tgt := 21) hx hb dX5_falls_8 (by decide) (fun c4 => ?_) (fun c4 => ?_)
    · have hF := if_p c4 hF
      refine lv_aload_n hx hb dX5_falls_21 rfl (lv_at hl 0 rfl) ?_
      refine lv_sipush (v := 1000) hx hb dX5_falls_22 (by decide) ?_
      obtain ⟨⟨v6, M7⟩, e5, hF⟩ := ob_s hF
      refine m_callV (As := [.int (1000 : Int32)]) (rest := []) X hp (w_X5_draws e5) q1809 q1811 qs105 q144 q1812 1 rfl ds_X5_draws ⟨Nat.le_of_ble_eq_true rfl, Nat.le_of_ble_eq_true rfl⟩ 6 (T := TX5) (N := 40) rfl (by decide) (rI_s e3).1 hl.1 rfl (Nat.le_of_ble_eq_true rfl) dX5_falls_25 ⟨Nat.le_refl 0, Nat.le_refl 0⟩ (fun H locs hp => ?_)
      refine lv_iload_n hx hb dX5_falls_28 rfl (lv_at hl 1 rfl) ?_
      refine lv_icmp_ge (tgt := 36) hx hb dX5_falls_29 (by decide) (fun c8 => ?_) (fun c8 => ?_)
      · have hF := if_p c8 hF
        refine lv_iconst (v := 0) hx hb dX5_falls_36 (by decide) ?_
        cases hF
        exact m_zret X hp rfl dX5_falls_37
      · have hF := if_n c8 hF
        refine lv_iconst (v := 1) hx hb dX5_falls_32 (by decide) ?_
        refine lv_goto (tgt := 37) hx hb dX5_falls_33 (by decide) ?_
        cases hF
        exact m_zret X hp rfl dX5_falls_37
    · have hF := if_n c4 hF
      refine lv_iload_n hx hb dX5_falls_11 rfl (lv_at hl 1 rfl) ?_
      refine lv_sipush (v := 500) hx hb dX5_falls_12 (by decide) ?_
      refine lv_icmp_lt (tgt := 36) hx hb dX5_falls_15 (by decide) (fun c9 => ?_) (fun c9 => ?_)
      · have hF := if_p c9 hF
        refine lv_iconst (v := 0) hx hb dX5_falls_36 (by decide) ?_
        cases hF
        exact m_zret X hp rfl dX5_falls_37
      · have hF := if_n c9 hF
        refine lv_goto (tgt := 32) hx hb dX5_falls_18 (by decide) ?_
        refine lv_iconst (v := 1) hx hb dX5_falls_32 (by decide) ?_
        refine lv_goto (tgt := 37) hx hb dX5_falls_33 (by decide) ?_
        cases hF
        exact m_zret X hp rfl dX5_falls_37
end
section
variable {l : Launch} {D : va_G} {n0 : Nat} {P : mP} {S : mSh} {M : mMm} {n : Nat} {p : Program} {e : Env} {s : State} {m : MethodId} {args : Array Value} {below : List Frame} {meth : Method} {c : Code}
abbrev Rm_X5_comesOver : Room := { frames := 4, cells := 0, slots := 0, locals := 93 }
def f_X5_comesOver (S : mSh) (M : mMm) (x0 : Nat) (x1 : Int32) : Option mMm := gd ((S x0).1 = 6) (ob (f_X5_adds S M x0 x1 (9 : Int32) (1 : Int32)) fun M4 => ob (rR S M4 x0 6 1) fun v5 => ob (aI S M4 v5 100 (937 : Int32)) fun v7 => ob (f_X5_tells S M4 x0 (2 : Int32) x1) fun ⟨v10, M11⟩ => ob (wA S M11 v5 100 (937 : Int32) (.int (v7 + v10))) fun M12 => ob (f_X5_has S M12 x0 x1 (5 : Int32)) fun v15 => ob (f_X5_writes S M12 x0 (3 : Int32) x1 v15) fun M18 => ob (f_X5_has S M18 x0 x1 (5 : Int32)) fun v20 => (if v20 = 0 then ob (f_X5_tells S M18 x0 (1 : Int32) x1) fun ⟨v23, M24⟩ => ob (f_X5_falls S M24 x0 v23) fun ⟨v26, M27⟩ => (if v26 = 0 then some M27 else ob (f_X5_adds S M27 x0 x1 (10 : Int32) (1 : Int32)) fun M31 => ob (rR S M31 x0 6 1) fun v32 => ob (aI S M31 v32 100 (937 : Int32)) fun v34 => ob (wA S M31 v32 100 (937 : Int32) (.int (v34 + (50 : Int32)))) fun M36 => ob (f_X5_writes S M36 x0 (4 : Int32) x1 (50 : Int32)) fun M40 => some M40) else some M18))
theorem w_X5_comesOver {x0 : Nat} {x1 : Int32} {M' : mMm} (hF : f_X5_comesOver S M x0 x1 = some M') : mCt l D n0 P yX5_comesOver cX5_comesOver 2 none 4 93 0 0 [.ref x0, .int x1] S M n none S M' n := by
  refine m_ofW (by decide) (Nat.le_of_ble_eq_true rfl) (fun p e s m below meth c X hnm hp ls hl => ?_)
  have hx := X.1.1
  have hb := X.1.2.1
  have hown := X.1.2.2.2.1
  have hts := X.1.2.2.2.2
  have hl : lv_has ls 2 [(0, .ref x0), (1, .int x1)] := hl
  unfold f_X5_comesOver at hF
  refine lv_aload_n hx hb dX5_comesOver_0 rfl (lv_at hl 0 rfl) ?_
  refine lv_iload_n hx hb dX5_comesOver_1 rfl (lv_at hl 1 rfl) ?_
  refine lv_bipush (v := 9) hx hb dX5_comesOver_2 (by decide) ?_
  refine lv_iconst (v := 1) hx hb dX5_comesOver_4 (by decide) ?_
  obtain ⟨g1, hF⟩ := gd_s hF
  obtain ⟨M4, e2, hF⟩ := ob_s hF
  refine m_callV (As := [.int x1, .int (9 : Int32), .int (1 : Int32)]) (rest := []) X hp (w_X5_adds e2) q1735 q1737 qs91 q144 q1738 3 rfl ds_X5_adds ⟨Nat.le_of_ble_eq_true rfl, Nat.le_of_ble_eq_true rfl⟩ 6 (T := TX5) (N := 40) rfl (by decide) g1 hl.1 rfl (Nat.le_of_ble_eq_true rfl) dX5_comesOver_5 ⟨Nat.le_refl 0, Nat.le_refl 0⟩ (fun H locs hp => ?_)
  refine lv_aload_n hx hb dX5_comesOver_8 rfl (lv_at hl 0 rfl) ?_
  obtain ⟨v5, e6, hF⟩ := ob_s hF
  refine m_getR X hp e6 kX5 (Nat.le_of_ble_eq_true rfl) q1460 dX5_comesOver_9 ?_
  refine lv_sipush (v := 937) hx hb dX5_comesOver_12 (by decide) ?_
  refine lv_dup2_11 hx hb dX5_comesOver_15 rfl rfl ?_
  obtain ⟨v7, e8, hF⟩ := ob_s hF
  refine m_iaI X hp e8 dX5_comesOver_16 ?_
  refine lv_aload_n hx hb dX5_comesOver_17 rfl (lv_at hl 0 rfl) ?_
  refine lv_iconst (v := 2) hx hb dX5_comesOver_18 (by decide) ?_
  refine lv_iload_n hx hb dX5_comesOver_19 rfl (lv_at hl 1 rfl) ?_
  obtain ⟨⟨v10, M11⟩, e9, hF⟩ := ob_s hF
  refine m_callV (As := [.int (2 : Int32), .int x1]) (rest := [.int v7, .int (937 : Int32), .ref v5]) X hp (w_X5_tells e9) q1779 q1781 qs99 q144 q1782 2 rfl ds_X5_tells ⟨Nat.le_of_ble_eq_true rfl, Nat.le_of_ble_eq_true rfl⟩ 6 (T := TX5) (N := 40) rfl (by decide) (rR_s e6).1 hl.1 rfl (Nat.le_of_ble_eq_true rfl) dX5_comesOver_20 ⟨Nat.le_refl 0, Nat.le_refl 0⟩ (fun H locs hp => ?_)
  refine lv_iadd hx hb dX5_comesOver_23 ?_
  obtain ⟨M12, e13, hF⟩ := ob_s hF
  refine m_iaW X hp e13 dX5_comesOver_24 (fun H locs hp => ?_)
  refine lv_aload_n hx hb dX5_comesOver_25 rfl (lv_at hl 0 rfl) ?_
  refine lv_iconst (v := 3) hx hb dX5_comesOver_26 (by decide) ?_
  refine lv_iload_n hx hb dX5_comesOver_27 rfl (lv_at hl 1 rfl) ?_
  refine lv_aload_n hx hb dX5_comesOver_28 rfl (lv_at hl 0 rfl) ?_
  refine lv_iload_n hx hb dX5_comesOver_29 rfl (lv_at hl 1 rfl) ?_
  refine lv_iconst (v := 5) hx hb dX5_comesOver_30 (by decide) ?_
  obtain ⟨v15, e14, hF⟩ := ob_s hF
  refine m_callV (As := [.int x1, .int (5 : Int32)]) (rest := [.int x1, .int (3 : Int32), .ref x0]) X hp (w_X5_has e14) q1727 q1729 qs89 q144 q1730 2 rfl ds_X5_has ⟨Nat.le_of_ble_eq_true rfl, Nat.le_of_ble_eq_true rfl⟩ 6 (T := TX5) (N := 40) rfl (by decide) (rR_s e6).1 hl.1 rfl (Nat.le_of_ble_eq_true rfl) dX5_comesOver_31 ⟨Nat.le_refl 0, Nat.le_refl 0⟩ (fun H locs hp => ?_)
  obtain ⟨M18, e16, hF⟩ := ob_s hF
  refine m_callV (As := [.int (3 : Int32), .int x1, .int v15]) (rest := []) X hp (w_X5_writes e16) q1754 q1756 qs95 q144 q1757 3 rfl ds_X5_writes ⟨Nat.le_of_ble_eq_true rfl, Nat.le_of_ble_eq_true rfl⟩ 6 (T := TX5) (N := 40) rfl (by decide) (rR_s e6).1 hl.1 rfl (Nat.le_of_ble_eq_true rfl) dX5_comesOver_34 ⟨Nat.le_refl 0, Nat.le_refl 0⟩ (fun H locs hp => ?_)
  refine lv_aload_n hx hb dX5_comesOver_37 rfl (lv_at hl 0 rfl) ?_
  refine lv_iload_n hx hb dX5_comesOver_38 rfl (lv_at hl 1 rfl) ?_
  refine lv_iconst (v := 5) hx hb dX5_comesOver_39 (by decide) ?_
  obtain ⟨v20, e19, hF⟩ := ob_s hF
  refine m_callV (As := [.int x1, .int (5 : Int32)]) (rest := []) X hp (w_X5_has e19) q1727 q1729 qs89 q144 q1730 2 rfl ds_X5_has ⟨Nat.le_of_ble_eq_true rfl, Nat.le_of_ble_eq_true rfl⟩ 6 (T := TX5) (N := 40) rfl (by decide) (rR_s e6).1 hl.1 rfl (Nat.le_of_ble_eq_true rfl) dX5_comesOver_40 ⟨Nat.le_refl 0, Nat.le_refl 0⟩ (fun H locs hp => ?_)
  refine lv_if_ne (tgt := 88) hx hb dX5_comesOver_43 (by decide) (fun c21 => ?_) (fun c21 => ?_)
  · have hF := if_n c21 hF
    cases hF
    exact m_vret X hp dX5_comesOver_88
  · have hF := if_p c21 hF
    refine lv_aload_n hx hb dX5_comesOver_46 rfl (lv_at hl 0 rfl) ?_
    refine lv_aload_n hx hb dX5_comesOver_47 rfl (lv_at hl 0 rfl) ?_
    refine lv_iconst (v := 1) hx hb dX5_comesOver_48 (by decide) ?_
    refine lv_iload_n hx hb dX5_comesOver_49 rfl (lv_at hl 1 rfl) ?_
    obtain ⟨⟨v23, M24⟩, e22, hF⟩ := ob_s hF
    refine m_callV (As := [.int (1 : Int32), .int x1]) (rest := [.ref x0]) X hp (w_X5_tells e22) q1779 q1781 qs99 q144 q1782 2 rfl ds_X5_tells ⟨Nat.le_of_ble_eq_true rfl, Nat.le_of_ble_eq_true rfl⟩ 6 (T := TX5) (N := 40) rfl (by decide) (rR_s e6).1 hl.1 rfl (Nat.le_of_ble_eq_true rfl) dX5_comesOver_50 ⟨Nat.le_refl 0, Nat.le_refl 0⟩ (fun H locs hp => ?_)
    obtain ⟨⟨v26, M27⟩, e25, hF⟩ := ob_s hF
    refine m_callV (As := [.int v23]) (rest := []) X hp (w_X5_falls e25) q1805 q1807 qs104 q144 q1808 1 rfl ds_X5_falls ⟨Nat.le_of_ble_eq_true rfl, Nat.le_of_ble_eq_true rfl⟩ 6 (T := TX5) (N := 40) rfl (by decide) (rR_s e6).1 hl.1 rfl (Nat.le_of_ble_eq_true rfl) dX5_comesOver_53 ⟨Nat.le_refl 0, Nat.le_refl 0⟩ (fun H locs hp => ?_)
    refine lv_if_eq (tgt := 88) hx hb dX5_comesOver_56 (by decide) (fun c28 => ?_) (fun c28 => ?_)
    · have hF := if_p c28 hF
      cases hF
      exact m_vret X hp dX5_comesOver_88
    · have hF := if_n c28 hF
      refine lv_aload_n hx hb dX5_comesOver_59 rfl (lv_at hl 0 rfl) ?_
      refine lv_iload_n hx hb dX5_comesOver_60 rfl (lv_at hl 1 rfl) ?_
      refine lv_bipush (v := 10) hx hb dX5_comesOver_61 (by decide) ?_
      refine lv_iconst (v := 1) hx hb dX5_comesOver_63 (by decide) ?_
      obtain ⟨M31, e29, hF⟩ := ob_s hF
      refine m_callV (As := [.int x1, .int (10 : Int32), .int (1 : Int32)]) (rest := []) X hp (w_X5_adds e29) q1735 q1737 qs91 q144 q1738 3 rfl ds_X5_adds ⟨Nat.le_of_ble_eq_true rfl, Nat.le_of_ble_eq_true rfl⟩ 6 (T := TX5) (N := 40) rfl (by decide) (rR_s e6).1 hl.1 rfl (Nat.le_of_ble_eq_true rfl) dX5_comesOver_64 ⟨Nat.le_refl 0, Nat.le_refl 0⟩ (fun H locs hp => ?_)
      refine lv_aload_n hx hb dX5_comesOver_67 rfl (lv_at hl 0 rfl) ?_
      obtain ⟨v32, e33, hF⟩ := ob_s hF
      refine m_getR X hp e33 kX5 (Nat.le_of_ble_eq_true rfl) q1460 dX5_comesOver_68 ?_
      refine lv_sipush (v := 937) hx hb dX5_comesOver_71 (by decide) ?_
      refine lv_dup2_11 hx hb dX5_comesOver_74 rfl rfl ?_
      obtain ⟨v34, e35, hF⟩ := ob_s hF
      refine m_iaI X hp e35 dX5_comesOver_75 ?_
      refine lv_bipush (v := 50) hx hb dX5_comesOver_76 (by decide) ?_
      refine lv_iadd hx hb dX5_comesOver_78 ?_
      obtain ⟨M36, e37, hF⟩ := ob_s hF
      refine m_iaW X hp e37 dX5_comesOver_79 (fun H locs hp => ?_)
      refine lv_aload_n hx hb dX5_comesOver_80 rfl (lv_at hl 0 rfl) ?_
      refine lv_iconst (v := 4) hx hb dX5_comesOver_81 (by decide) ?_
      refine lv_iload_n hx hb dX5_comesOver_82 rfl (lv_at hl 1 rfl) ?_
      refine lv_bipush (v := 50) hx hb dX5_comesOver_83 (by decide) ?_
      obtain ⟨M40, e38, hF⟩ := ob_s hF
      refine m_callV (As := [.int (4 : Int32), .int x1, .int (50 : Int32)]) (rest := []) X hp (w_X5_writes e38) q1754 q1756 qs95 q144 q1757 3 rfl ds_X5_writes ⟨Nat.le_of_ble_eq_true rfl, Nat.le_of_ble_eq_true rfl⟩ 6 (T := TX5) (N := 40) rfl (by decide) (rR_s e33).1 hl.1 rfl (Nat.le_of_ble_eq_true rfl) dX5_comesOver_85 ⟨Nat.le_refl 0, Nat.le_refl 0⟩ (fun H locs hp => ?_)
      cases hF
      exact m_vret X hp dX5_comesOver_88
end
section
variable {l : Launch} {D : va_G} {n0 : Nat} {P : mP} {S : mSh} {M : mMm} {n : Nat} {p : Program} {e : Env} {s : State} {m : MethodId} {args : Array Value} {below : List Frame} {meth : Method} {c : Code}
abbrev Rm_X5_downBy : Room := { frames := 0, cells := 0, slots := 0, locals := 0 }
def f_X5_downBy (x0 : Int32) (x1 : Int32) : Option Int32 := (if 0 ≤ x0 then gd (¬ x1 = 0) (some (x0 / x1)) else gd (¬ x1 = 0) (some (-((((-x0) + x1) - (1 : Int32)) / x1))))
theorem w_X5_downBy {x0 : Int32} {x1 : Int32} {r : Int32} (hF : f_X5_downBy x0 x1 = some r) : mCt l D n0 P yX5_downBy cX5_downBy 2 (some .int) 0 0 0 0 [.int x0, .int x1] S M n (some (.int r)) S M n := by
  refine m_ofW (by decide) (Nat.le_of_ble_eq_true rfl) (fun p e s m below meth c X hnm hp ls hl => ?_)
  have hx := X.1.1
  have hb := X.1.2.1
  have hown := X.1.2.2.2.1
  have hts := X.1.2.2.2.2
  have hl : lv_has ls 2 [(0, .int x0), (1, .int x1)] := hl
  unfold f_X5_downBy at hF
  refine lv_iload_n hx hb dX5_downBy_0 rfl (lv_at hl 0 rfl) ?_
  refine lv_if_ge (tgt := 16) hx hb dX5_downBy_1 (by decide) (fun c1 => ?_) (fun c1 => ?_)
  · have hF := if_p c1 hF
    refine lv_iload_n hx hb dX5_downBy_16 rfl (lv_at hl 0 rfl) ?_
    refine lv_iload_n hx hb dX5_downBy_17 rfl (lv_at hl 1 rfl) ?_
    obtain ⟨g2, hF⟩ := gd_s hF
    refine lv_idiv hx hb dX5_downBy_18 g2 ?_
    cases hF
    exact m_iret X hp dX5_downBy_19
  · have hF := if_n c1 hF
    refine lv_iload_n hx hb dX5_downBy_4 rfl (lv_at hl 0 rfl) ?_
    refine lv_ineg hx hb dX5_downBy_5 ?_
    refine lv_iload_n hx hb dX5_downBy_6 rfl (lv_at hl 1 rfl) ?_
    refine lv_iadd hx hb dX5_downBy_7 ?_
    refine lv_iconst (v := 1) hx hb dX5_downBy_8 (by decide) ?_
    refine lv_isub hx hb dX5_downBy_9 ?_
    refine lv_iload_n hx hb dX5_downBy_10 rfl (lv_at hl 1 rfl) ?_
    obtain ⟨g3, hF⟩ := gd_s hF
    refine lv_idiv hx hb dX5_downBy_11 g3 ?_
    refine lv_ineg hx hb dX5_downBy_12 ?_
    refine lv_goto (tgt := 19) hx hb dX5_downBy_13 (by decide) ?_
    cases hF
    exact m_iret X hp dX5_downBy_19
end
section
variable {l : Launch} {D : va_G} {n0 : Nat} {P : mP} {S : mSh} {M : mMm} {n : Nat} {p : Program} {e : Env} {s : State} {m : MethodId} {args : Array Value} {below : List Frame} {meth : Method} {c : Code}
abbrev Rm_X5_drivesOut : Room := { frames := 1, cells := 0, slots := 0, locals := 21 }
def fb_X5_drivesOut_72 (S : mSh) (k2 : mMm → Nat → Int32 → Option mMm) (M : mMm) (x0 : Nat) (x1 : Int32) : Option mMm := nm (x1 + (1 : Int32)) fun v34 => (k2 M x0 v34)
theorem b_X5_drivesOut_72 {M' : mMm} (X : mCx D n0 P p m c cX5_drivesOut 3 s args yX5_drivesOut.cls meth none) (k2 : mMm → Nat → Int32 → Option mMm) (hk2 : ∀ (M : mMm) (x0 : Nat) (x1 : Int32) (H : Heap) (locs : List Loc) (ls : Array Slot), mHp D n0 S M n s H locs → lv_has ls 3 [(0, .ref x0), (1, .int x1)] → k2 M x0 x1 = some M' → W p l e Rm_X5_drivesOut s m args below meth c H locs 0 0 (MQ below (mQ D n0 none S M' n) args s 0 0 (mA n0)) (F0 m 2 ls [])) : ∀ (M : mMm) (x0 : Nat) (x1 : Int32) (H : Heap) (locs : List Loc) (ls : Array Slot), mHp D n0 S M n s H locs → lv_has ls 3 [(0, .ref x0), (1, .int x1)] → fb_X5_drivesOut_72 S k2 M x0 x1 = some M' → W p l e Rm_X5_drivesOut s m args below meth c H locs 0 0 (MQ below (mQ D n0 none S M' n) args s 0 0 (mA n0)) (F0 m 72 ls []) := by
  have hx := X.1.1
  have hb := X.1.2.1
  have hown := X.1.2.2.2.1
  have hts := X.1.2.2.2.2
  intro M x0 x1 H locs ls hp hl hF
  unfold fb_X5_drivesOut_72 at hF
  obtain ⟨v34, ev35⟩ : ∃ y : Int32, y = x1 + (1 : Int32) := ⟨_, rfl⟩
  have hF := nm_s hF ev35
  refine lv_iinc (v := v34) (lv' := [(1, .int v34), (0, .ref x0)]) hx hb dX5_drivesOut_72 hl (k := 1) rfl (by rw [ev35]; rfl) (by decide) rfl (fun ls hl => ?_)
  refine lv_goto (tgt := 2) hx hb dX5_drivesOut_75 (by decide) ?_
  exact hk2 _ _ _ _ _ _ hp (lv_sub hl [1, 0] rfl) hF
def fb_X5_drivesOut_2 (S : mSh) : Nat → mMm → Nat → Int32 → Option mMm
  | 0, _, _, _ => none
  | t + 1, M, x0, x1 => ob (rR S M x0 6 0) fun v3 => ob (aI S M v3 100 (940 : Int32)) fun v5 => (if v5 ≤ x1 then some M else nm (((144 : Int32) + ((12 : Int32) * x1))) fun v8 => ob (rR S M x0 6 0) fun v10 => ob (aI S M v10 100 (v8 + (1 : Int32))) fun v12 => (if v12 = (1 : Int32) then ob (rR S M x0 6 0) fun v15 => ob (rR S M x0 6 0) fun v17 => ob (aI S M v17 100 (v8 + (2 : Int32))) fun v19 => ob (rR S M x0 6 0) fun v21 => ob (aI S M v21 100 (v8 + (3 : Int32))) fun v23 => ob (f_X5_place v19 v23) fun v26 => ob (aI S M v15 100 v26) fun v27 => (if v27 = (1 : Int32) then ob (rR S M x0 6 0) fun v30 => ob (wA S M v30 100 (v8 + (1 : Int32)) (.int (0 : Int32))) fun M32 => (fb_X5_drivesOut_72 S (fb_X5_drivesOut_2 S t) M32 x0 x1) else (fb_X5_drivesOut_72 S (fb_X5_drivesOut_2 S t) M x0 x1)) else (fb_X5_drivesOut_72 S (fb_X5_drivesOut_2 S t) M x0 x1)))
theorem b_X5_drivesOut_2 {M' : mMm} (X : mCx D n0 P p m c cX5_drivesOut 3 s args yX5_drivesOut.cls meth none) : ∀ t : Nat, ∀ (M : mMm) (x0 : Nat) (x1 : Int32) (H : Heap) (locs : List Loc) (ls : Array Slot), mHp D n0 S M n s H locs → lv_has ls 3 [(0, .ref x0), (1, .int x1)] → fb_X5_drivesOut_2 S t M x0 x1 = some M' → W p l e Rm_X5_drivesOut s m args below meth c H locs 0 0 (MQ below (mQ D n0 none S M' n) args s 0 0 (mA n0)) (F0 m 2 ls []) := by
  have hx := X.1.1
  have hb := X.1.2.1
  have hown := X.1.2.2.2.1
  have hts := X.1.2.2.2.2
  intro t
  induction t with
  | zero =>
    intro M x0 x1 H locs ls hp hl hF
    have hF : none = some M' := hF
    cases hF
  | succ t ih =>
    intro M x0 x1 H locs ls hp hl hF
    rw [fb_X5_drivesOut_2] at hF
    refine lv_iload_n hx hb dX5_drivesOut_2 rfl (lv_at hl 1 rfl) ?_
    refine lv_aload_n hx hb dX5_drivesOut_3 rfl (lv_at hl 0 rfl) ?_
    obtain ⟨v3, e4, hF⟩ := ob_s hF
    refine m_getR X hp e4 kX5 (Nat.le_of_ble_eq_true rfl) q1459 dX5_drivesOut_4 ?_
    refine lv_sipush (v := 940) hx hb dX5_drivesOut_7 (by decide) ?_
    obtain ⟨v5, e6, hF⟩ := ob_s hF
    refine m_iaI X hp e6 dX5_drivesOut_10 ?_
    refine lv_icmp_ge (tgt := 78) hx hb dX5_drivesOut_11 (by decide) (fun c7 => ?_) (fun c7 => ?_)
    · have hF := if_p c7 hF
      cases hF
      exact m_vret X hp dX5_drivesOut_78
    · have hF := if_n c7 hF
      refine lv_sipush (v := 144) hx hb dX5_drivesOut_14 (by decide) ?_
      refine lv_bipush (v := 12) hx hb dX5_drivesOut_17 (by decide) ?_
      refine lv_iload_n hx hb dX5_drivesOut_19 rfl (lv_at hl 1 rfl) ?_
      refine lv_imul hx hb dX5_drivesOut_20 ?_
      refine lv_iadd hx hb dX5_drivesOut_21 ?_
      refine lv_topi (fun v8 ev9 => ?_)
      have hF := nm_s hF ev9
      refine lv_istore_n (lv' := [(2, .int v8), (0, .ref x0), (1, .int x1)]) hx hb dX5_drivesOut_22 rfl hl (by decide) rfl (fun ls hl => ?_)
      refine lv_aload_n hx hb dX5_drivesOut_23 rfl (lv_at hl 1 rfl) ?_
      obtain ⟨v10, e11, hF⟩ := ob_s hF
      refine m_getR X hp e11 kX5 (Nat.le_of_ble_eq_true rfl) q1459 dX5_drivesOut_24 ?_
      refine lv_iload_n hx hb dX5_drivesOut_27 rfl (lv_at hl 0 rfl) ?_
      refine lv_iconst (v := 1) hx hb dX5_drivesOut_28 (by decide) ?_
      refine lv_iadd hx hb dX5_drivesOut_29 ?_
      obtain ⟨v12, e13, hF⟩ := ob_s hF
      refine m_iaI X hp e13 dX5_drivesOut_30 ?_
      refine lv_iconst (v := 1) hx hb dX5_drivesOut_31 (by decide) ?_
      refine lv_icmp_ne (tgt := 72) hx hb dX5_drivesOut_32 (by decide) (fun c14 => ?_) (fun c14 => ?_)
      · have hF := if_n c14 hF
        exact b_X5_drivesOut_72 X _ ih _ _ _ _ _ _ hp (lv_sub hl [1, 2] rfl) hF
      · have hF := if_p c14 hF
        refine lv_aload_n hx hb dX5_drivesOut_35 rfl (lv_at hl 1 rfl) ?_
        obtain ⟨v15, e16, hF⟩ := ob_s hF
        refine m_getR X hp e16 kX5 (Nat.le_of_ble_eq_true rfl) q1459 dX5_drivesOut_36 ?_
        refine lv_aload_n hx hb dX5_drivesOut_39 rfl (lv_at hl 1 rfl) ?_
        obtain ⟨v17, e18, hF⟩ := ob_s hF
        refine m_getR X hp e18 kX5 (Nat.le_of_ble_eq_true rfl) q1459 dX5_drivesOut_40 ?_
        refine lv_iload_n hx hb dX5_drivesOut_43 rfl (lv_at hl 0 rfl) ?_
        refine lv_iconst (v := 2) hx hb dX5_drivesOut_44 (by decide) ?_
        refine lv_iadd hx hb dX5_drivesOut_45 ?_
        obtain ⟨v19, e20, hF⟩ := ob_s hF
        refine m_iaI X hp e20 dX5_drivesOut_46 ?_
        refine lv_aload_n hx hb dX5_drivesOut_47 rfl (lv_at hl 1 rfl) ?_
        obtain ⟨v21, e22, hF⟩ := ob_s hF
        refine m_getR X hp e22 kX5 (Nat.le_of_ble_eq_true rfl) q1459 dX5_drivesOut_48 ?_
        refine lv_iload_n hx hb dX5_drivesOut_51 rfl (lv_at hl 0 rfl) ?_
        refine lv_iconst (v := 3) hx hb dX5_drivesOut_52 (by decide) ?_
        refine lv_iadd hx hb dX5_drivesOut_53 ?_
        obtain ⟨v23, e24, hF⟩ := ob_s hF
        refine m_iaI X hp e24 dX5_drivesOut_54 ?_
        obtain ⟨v26, e25, hF⟩ := ob_s hF
        refine m_callS (As := [.int v19, .int v23]) (rest := [.ref v15]) X hp (w_X5_place e25) q1708 q1709 q144 q1710 2 rfl ds_X5_place ⟨Nat.le_of_ble_eq_true rfl, Nat.le_of_ble_eq_true rfl⟩ hl.1 rfl (Nat.le_of_ble_eq_true rfl) dX5_drivesOut_55 ⟨Nat.le_refl 0, Nat.le_refl 0⟩ (fun H locs hp => ?_)
        obtain ⟨v27, e28, hF⟩ := ob_s hF
        refine m_iaI X hp e28 dX5_drivesOut_58 ?_
        refine lv_iconst (v := 1) hx hb dX5_drivesOut_59 (by decide) ?_
        refine lv_icmp_ne (tgt := 72) hx hb dX5_drivesOut_60 (by decide) (fun c29 => ?_) (fun c29 => ?_)
        · have hF := if_n c29 hF
          exact b_X5_drivesOut_72 X _ ih _ _ _ _ _ _ hp (lv_sub hl [1, 2] rfl) hF
        · have hF := if_p c29 hF
          refine lv_aload_n hx hb dX5_drivesOut_63 rfl (lv_at hl 1 rfl) ?_
          obtain ⟨v30, e31, hF⟩ := ob_s hF
          refine m_getR X hp e31 kX5 (Nat.le_of_ble_eq_true rfl) q1459 dX5_drivesOut_64 ?_
          refine lv_iload_n hx hb dX5_drivesOut_67 rfl (lv_at hl 0 rfl) ?_
          refine lv_iconst (v := 1) hx hb dX5_drivesOut_68 (by decide) ?_
          refine lv_iadd hx hb dX5_drivesOut_69 ?_
          refine lv_iconst (v := 0) hx hb dX5_drivesOut_70 (by decide) ?_
          obtain ⟨M32, e33, hF⟩ := ob_s hF
          refine m_iaW X hp e33 dX5_drivesOut_71 (fun H locs hp => ?_)
          exact b_X5_drivesOut_72 X _ ih _ _ _ _ _ _ hp (lv_sub hl [1, 2] rfl) hF
def f_X5_drivesOut (S : mSh) (M : mMm) (x0 : Nat) : Option mMm := nm ((0 : Int32)) fun v1 => (fb_X5_drivesOut_2 S FU M x0 v1)
theorem w_X5_drivesOut {x0 : Nat} {M' : mMm} (hF : f_X5_drivesOut S M x0 = some M') : mCt l D n0 P yX5_drivesOut cX5_drivesOut 3 none 1 21 0 0 [.ref x0] S M n none S M' n := by
  refine m_ofW (by decide) (Nat.le_of_ble_eq_true rfl) (fun p e s m below meth c X hnm hp ls hl => ?_)
  have hx := X.1.1
  have hb := X.1.2.1
  have hown := X.1.2.2.2.1
  have hts := X.1.2.2.2.2
  have hl : lv_has ls 3 [(0, .ref x0)] := hl
  unfold f_X5_drivesOut at hF
  refine lv_iconst (v := 0) hx hb dX5_drivesOut_0 (by decide) ?_
  refine lv_topi (fun v1 ev2 => ?_)
  have hF := nm_s hF ev2
  refine lv_istore_n (lv' := [(1, .int v1), (0, .ref x0)]) hx hb dX5_drivesOut_1 rfl hl (by decide) rfl (fun ls hl => ?_)
  exact b_X5_drivesOut_2 X _ _ _ _ _ _ _ hp (lv_sub hl [1, 0] rfl) hF
end
section
variable {l : Launch} {D : va_G} {n0 : Nat} {P : mP} {S : mSh} {M : mMm} {n : Nat} {p : Program} {e : Env} {s : State} {m : MethodId} {args : Array Value} {below : List Frame} {meth : Method} {c : Code}
abbrev Rm_X5_pacesFrom : Room := { frames := 0, cells := 0, slots := 0, locals := 0 }
def fb_X5_pacesFrom_101 (S : mSh) (k3 : mMm → Nat → Int32 → Int32 → Int32 → Int32 → Int32 → Int32 → Option mMm) (M : mMm) (x0 : Nat) (x1 : Int32) (x2 : Int32) (x3 : Int32) (x4 : Int32) (x5 : Int32) (x6 : Int32) : Option mMm := nm (x6 + (1 : Int32)) fun v19 => (k3 M x0 x1 x2 x3 x4 x5 v19)
theorem b_X5_pacesFrom_101 {M' : mMm} (X : mCx D n0 P p m c cX5_pacesFrom 10 s args yX5_pacesFrom.cls meth none) (k3 : mMm → Nat → Int32 → Int32 → Int32 → Int32 → Int32 → Int32 → Option mMm) (hk3 : ∀ (M : mMm) (x0 : Nat) (x1 : Int32) (x2 : Int32) (x3 : Int32) (x4 : Int32) (x5 : Int32) (x6 : Int32) (H : Heap) (locs : List Loc) (ls : Array Slot), mHp D n0 S M n s H locs → lv_has ls 10 [(0, .ref x0), (1, .int x1), (2, .int x2), (3, .int x3), (4, .int x4), (5, .int x5), (6, .int x6)] → k3 M x0 x1 x2 x3 x4 x5 x6 = some M' → W p l e Rm_X5_pacesFrom s m args below meth c H locs 0 0 (MQ below (mQ D n0 none S M' n) args s 0 0 (mA n0)) (F0 m 3 ls [])) : ∀ (M : mMm) (x0 : Nat) (x1 : Int32) (x2 : Int32) (x3 : Int32) (x4 : Int32) (x5 : Int32) (x6 : Int32) (H : Heap) (locs : List Loc) (ls : Array Slot), mHp D n0 S M n s H locs → lv_has ls 10 [(0, .ref x0), (1, .int x1), (2, .int x2), (3, .int x3), (4, .int x4), (5, .int x5), (6, .int x6)] → fb_X5_pacesFrom_101 S k3 M x0 x1 x2 x3 x4 x5 x6 = some M' → W p l e Rm_X5_pacesFrom s m args below meth c H locs 0 0 (MQ below (mQ D n0 none S M' n) args s 0 0 (mA n0)) (F0 m 101 ls []) := by
  have hx := X.1.1
  have hb := X.1.2.1
  have hown := X.1.2.2.2.1
  have hts := X.1.2.2.2.2
  intro M x0 x1 x2 x3 x4 x5 x6 H locs ls hp hl hF
  unfold fb_X5_pacesFrom_101 at hF
  obtain ⟨v19, ev20⟩ : ∃ y : Int32, y = x6 + (1 : Int32) := ⟨_, rfl⟩
  have hF := nm_s hF ev20
  refine lv_iinc (v := v19) (lv' := [(6, .int v19), (0, .ref x0), (1, .int x1), (2, .int x2), (3, .int x3), (4, .int x4), (5, .int x5)]) hx hb dX5_pacesFrom_101 hl (k := 6) rfl (by rw [ev20]; rfl) (by decide) rfl (fun ls hl => ?_)
  refine lv_goto (tgt := 3) hx hb dX5_pacesFrom_104 (by decide) ?_
  exact hk3 _ _ _ _ _ _ _ _ _ _ _ hp (lv_sub hl [1, 2, 3, 4, 5, 6, 0] rfl) hF
def fb_X5_pacesFrom_76 (S : mSh) (k3 : mMm → Nat → Int32 → Int32 → Int32 → Int32 → Int32 → Int32 → Option mMm) (M : mMm) (x0 : Nat) (x1 : Int32) (x2 : Int32) (x3 : Int32) (x4 : Int32) (x5 : Int32) (x6 : Int32) (y0 : Int32) (y1 : Int32) : Option mMm := nm ((y1 + y0)) fun v8 => ob (rR S M x0 6 33) fun v10 => ob (aI S M v10 100 v8) fun v12 => (if v12 = (9999 : Int32) then ob (rR S M x0 6 33) fun v15 => ob (wA S M v15 100 v8 (.int x5)) fun M17 => (fb_X5_pacesFrom_101 S k3 M17 x0 x1 x2 x3 x4 x5 x6) else (fb_X5_pacesFrom_101 S k3 M x0 x1 x2 x3 x4 x5 x6))
theorem b_X5_pacesFrom_76 {M' : mMm} (X : mCx D n0 P p m c cX5_pacesFrom 10 s args yX5_pacesFrom.cls meth none) (k3 : mMm → Nat → Int32 → Int32 → Int32 → Int32 → Int32 → Int32 → Option mMm) (hk3 : ∀ (M : mMm) (x0 : Nat) (x1 : Int32) (x2 : Int32) (x3 : Int32) (x4 : Int32) (x5 : Int32) (x6 : Int32) (H : Heap) (locs : List Loc) (ls : Array Slot), mHp D n0 S M n s H locs → lv_has ls 10 [(0, .ref x0), (1, .int x1), (2, .int x2), (3, .int x3), (4, .int x4), (5, .int x5), (6, .int x6)] → k3 M x0 x1 x2 x3 x4 x5 x6 = some M' → W p l e Rm_X5_pacesFrom s m args below meth c H locs 0 0 (MQ below (mQ D n0 none S M' n) args s 0 0 (mA n0)) (F0 m 3 ls [])) : ∀ (M : mMm) (x0 : Nat) (x1 : Int32) (x2 : Int32) (x3 : Int32) (x4 : Int32) (x5 : Int32) (x6 : Int32) (y0 : Int32) (y1 : Int32) (H : Heap) (locs : List Loc) (ls : Array Slot), mHp D n0 S M n s H locs → lv_has ls 10 [(0, .ref x0), (1, .int x1), (2, .int x2), (3, .int x3), (4, .int x4), (5, .int x5), (6, .int x6)] → fb_X5_pacesFrom_76 S k3 M x0 x1 x2 x3 x4 x5 x6 y0 y1 = some M' → W p l e Rm_X5_pacesFrom s m args below meth c H locs 0 0 (MQ below (mQ D n0 none S M' n) args s 0 0 (mA n0)) (F0 m 76 ls [.int y0, .int y1]) := by
  have hx := X.1.1
  have hb := X.1.2.1
  have hown := X.1.2.2.2.1
  have hts := X.1.2.2.2.2
  intro M x0 x1 x2 x3 x4 x5 x6 y0 y1 H locs ls hp hl hF
  unfold fb_X5_pacesFrom_76 at hF
  refine lv_iadd hx hb dX5_pacesFrom_76 ?_
  refine lv_topi (fun v8 ev9 => ?_)
  have hF := nm_s hF ev9
  refine lv_istore (lv' := [(9, .int v8), (0, .ref x0), (1, .int x1), (2, .int x2), (3, .int x3), (4, .int x4), (5, .int x5), (6, .int x6)]) hx hb dX5_pacesFrom_77 hl (by decide) rfl (fun ls hl => ?_)
  refine lv_aload_n hx hb dX5_pacesFrom_79 rfl (lv_at hl 1 rfl) ?_
  obtain ⟨v10, e11, hF⟩ := ob_s hF
  refine m_getR X hp e11 kX5 (Nat.le_of_ble_eq_true rfl) q1492 dX5_pacesFrom_80 ?_
  refine lv_iload hx hb dX5_pacesFrom_83 (lv_at hl 0 rfl) ?_
  obtain ⟨v12, e13, hF⟩ := ob_s hF
  refine m_iaI X hp e13 dX5_pacesFrom_85 ?_
  refine lv_sipush (v := 9999) hx hb dX5_pacesFrom_86 (by decide) ?_
  refine lv_icmp_ne (tgt := 101) hx hb dX5_pacesFrom_89 (by decide) (fun c14 => ?_) (fun c14 => ?_)
  · have hF := if_n c14 hF
    exact b_X5_pacesFrom_101 X _ hk3 _ _ _ _ _ _ _ _ _ _ _ hp (lv_sub hl [1, 2, 3, 4, 5, 6, 7] rfl) hF
  · have hF := if_p c14 hF
    refine lv_aload_n hx hb dX5_pacesFrom_92 rfl (lv_at hl 1 rfl) ?_
    obtain ⟨v15, e16, hF⟩ := ob_s hF
    refine m_getR X hp e16 kX5 (Nat.le_of_ble_eq_true rfl) q1492 dX5_pacesFrom_93 ?_
    refine lv_iload hx hb dX5_pacesFrom_96 (lv_at hl 0 rfl) ?_
    refine lv_iload hx hb dX5_pacesFrom_98 (lv_at hl 6 rfl) ?_
    obtain ⟨M17, e18, hF⟩ := ob_s hF
    refine m_iaW X hp e18 dX5_pacesFrom_100 (fun H locs hp => ?_)
    exact b_X5_pacesFrom_101 X _ hk3 _ _ _ _ _ _ _ _ _ _ _ hp (lv_sub hl [1, 2, 3, 4, 5, 6, 7] rfl) hF
def fb_X5_pacesFrom_57 (S : mSh) (k3 : mMm → Nat → Int32 → Int32 → Int32 → Int32 → Int32 → Int32 → Option mMm) (M : mMm) (x0 : Nat) (x1 : Int32) (x2 : Int32) (x3 : Int32) (x4 : Int32) (x5 : Int32) (x6 : Int32) (x7 : Int32) (y0 : Int32) (y1 : Int32) (y2 : Int32) : Option mMm := (if (x6 - x6 / (2 : Int32) * (2 : Int32)) = 0 then (fb_X5_pacesFrom_76 S k3 M x0 x1 x2 x3 x4 x5 x6 x7 ((y2 * (y1 + y0)) + x1)) else (fb_X5_pacesFrom_76 S k3 M x0 x1 x2 x3 x4 x5 x6 (-x7) ((y2 * (y1 + y0)) + x1)))
theorem b_X5_pacesFrom_57 {M' : mMm} (X : mCx D n0 P p m c cX5_pacesFrom 10 s args yX5_pacesFrom.cls meth none) (k3 : mMm → Nat → Int32 → Int32 → Int32 → Int32 → Int32 → Int32 → Option mMm) (hk3 : ∀ (M : mMm) (x0 : Nat) (x1 : Int32) (x2 : Int32) (x3 : Int32) (x4 : Int32) (x5 : Int32) (x6 : Int32) (H : Heap) (locs : List Loc) (ls : Array Slot), mHp D n0 S M n s H locs → lv_has ls 10 [(0, .ref x0), (1, .int x1), (2, .int x2), (3, .int x3), (4, .int x4), (5, .int x5), (6, .int x6)] → k3 M x0 x1 x2 x3 x4 x5 x6 = some M' → W p l e Rm_X5_pacesFrom s m args below meth c H locs 0 0 (MQ below (mQ D n0 none S M' n) args s 0 0 (mA n0)) (F0 m 3 ls [])) : ∀ (M : mMm) (x0 : Nat) (x1 : Int32) (x2 : Int32) (x3 : Int32) (x4 : Int32) (x5 : Int32) (x6 : Int32) (x7 : Int32) (y0 : Int32) (y1 : Int32) (y2 : Int32) (H : Heap) (locs : List Loc) (ls : Array Slot), mHp D n0 S M n s H locs → lv_has ls 10 [(0, .ref x0), (1, .int x1), (2, .int x2), (3, .int x3), (4, .int x4), (5, .int x5), (6, .int x6), (7, .int x7)] → fb_X5_pacesFrom_57 S k3 M x0 x1 x2 x3 x4 x5 x6 x7 y0 y1 y2 = some M' → W p l e Rm_X5_pacesFrom s m args below meth c H locs 0 0 (MQ below (mQ D n0 none S M' n) args s 0 0 (mA n0)) (F0 m 57 ls [.int y0, .int y1, .int y2]) := by
  have hx := X.1.1
  have hb := X.1.2.1
  have hown := X.1.2.2.2.1
  have hts := X.1.2.2.2.2
  intro M x0 x1 x2 x3 x4 x5 x6 x7 y0 y1 y2 H locs ls hp hl hF
  unfold fb_X5_pacesFrom_57 at hF
  refine lv_iadd hx hb dX5_pacesFrom_57 ?_
  refine lv_imul hx hb dX5_pacesFrom_58 ?_
  refine lv_iload_n hx hb dX5_pacesFrom_59 rfl (lv_at hl 1 rfl) ?_
  refine lv_iadd hx hb dX5_pacesFrom_60 ?_
  refine lv_iload hx hb dX5_pacesFrom_61 (lv_at hl 6 rfl) ?_
  refine lv_iconst (v := 2) hx hb dX5_pacesFrom_63 (by decide) ?_
  refine lv_irem hx hb dX5_pacesFrom_64 (by decide) ?_
  refine lv_if_ne (tgt := 73) hx hb dX5_pacesFrom_65 (by decide) (fun c7 => ?_) (fun c7 => ?_)
  · have hF := if_n c7 hF
    refine lv_iload hx hb dX5_pacesFrom_73 (lv_at hl 7 rfl) ?_
    refine lv_ineg hx hb dX5_pacesFrom_75 ?_
    exact b_X5_pacesFrom_76 X _ hk3 _ _ _ _ _ _ _ _ _ _ _ _ _ hp (lv_sub hl [0, 1, 2, 3, 4, 5, 6] rfl) hF
  · have hF := if_p c7 hF
    refine lv_iload hx hb dX5_pacesFrom_68 (lv_at hl 7 rfl) ?_
    refine lv_goto (tgt := 76) hx hb dX5_pacesFrom_70 (by decide) ?_
    exact b_X5_pacesFrom_76 X _ hk3 _ _ _ _ _ _ _ _ _ _ _ _ _ hp (lv_sub hl [0, 1, 2, 3, 4, 5, 6] rfl) hF
def fb_X5_pacesFrom_36 (S : mSh) (k3 : mMm → Nat → Int32 → Int32 → Int32 → Int32 → Int32 → Int32 → Option mMm) (M : mMm) (x0 : Nat) (x1 : Int32) (x2 : Int32) (x3 : Int32) (x4 : Int32) (x5 : Int32) (x6 : Int32) (x7 : Int32) (y0 : Int32) : Option mMm := (if (2 : Int32) ≤ (x6 - x6 / (4 : Int32) * (4 : Int32)) then (fb_X5_pacesFrom_57 S k3 M x0 x1 x2 x3 x4 x5 x6 x7 (-y0) x2 (121 : Int32)) else (fb_X5_pacesFrom_57 S k3 M x0 x1 x2 x3 x4 x5 x6 x7 y0 x2 (121 : Int32)))
theorem b_X5_pacesFrom_36 {M' : mMm} (X : mCx D n0 P p m c cX5_pacesFrom 10 s args yX5_pacesFrom.cls meth none) (k3 : mMm → Nat → Int32 → Int32 → Int32 → Int32 → Int32 → Int32 → Option mMm) (hk3 : ∀ (M : mMm) (x0 : Nat) (x1 : Int32) (x2 : Int32) (x3 : Int32) (x4 : Int32) (x5 : Int32) (x6 : Int32) (H : Heap) (locs : List Loc) (ls : Array Slot), mHp D n0 S M n s H locs → lv_has ls 10 [(0, .ref x0), (1, .int x1), (2, .int x2), (3, .int x3), (4, .int x4), (5, .int x5), (6, .int x6)] → k3 M x0 x1 x2 x3 x4 x5 x6 = some M' → W p l e Rm_X5_pacesFrom s m args below meth c H locs 0 0 (MQ below (mQ D n0 none S M' n) args s 0 0 (mA n0)) (F0 m 3 ls [])) : ∀ (M : mMm) (x0 : Nat) (x1 : Int32) (x2 : Int32) (x3 : Int32) (x4 : Int32) (x5 : Int32) (x6 : Int32) (x7 : Int32) (y0 : Int32) (H : Heap) (locs : List Loc) (ls : Array Slot), mHp D n0 S M n s H locs → lv_has ls 10 [(0, .ref x0), (1, .int x1), (2, .int x2), (3, .int x3), (4, .int x4), (5, .int x5), (6, .int x6), (7, .int x7)] → fb_X5_pacesFrom_36 S k3 M x0 x1 x2 x3 x4 x5 x6 x7 y0 = some M' → W p l e Rm_X5_pacesFrom s m args below meth c H locs 0 0 (MQ below (mQ D n0 none S M' n) args s 0 0 (mA n0)) (F0 m 36 ls [.int y0]) := by
  have hx := X.1.1
  have hb := X.1.2.1
  have hown := X.1.2.2.2.1
  have hts := X.1.2.2.2.2
  intro M x0 x1 x2 x3 x4 x5 x6 x7 y0 H locs ls hp hl hF
  unfold fb_X5_pacesFrom_36 at hF
  refine lv_istore (lv' := [(8, .int y0), (0, .ref x0), (1, .int x1), (2, .int x2), (3, .int x3), (4, .int x4), (5, .int x5), (6, .int x6), (7, .int x7)]) hx hb dX5_pacesFrom_36 hl (by decide) rfl (fun ls hl => ?_)
  refine lv_bipush (v := 121) hx hb dX5_pacesFrom_38 (by decide) ?_
  refine lv_iload_n hx hb dX5_pacesFrom_40 rfl (lv_at hl 3 rfl) ?_
  refine lv_iload hx hb dX5_pacesFrom_41 (lv_at hl 7 rfl) ?_
  refine lv_iconst (v := 4) hx hb dX5_pacesFrom_43 (by decide) ?_
  refine lv_irem hx hb dX5_pacesFrom_44 (by decide) ?_
  refine lv_iconst (v := 2) hx hb dX5_pacesFrom_45 (by decide) ?_
  refine lv_icmp_ge (tgt := 54) hx hb dX5_pacesFrom_46 (by decide) (fun c6 => ?_) (fun c6 => ?_)
  · have hF := if_p c6 hF
    refine lv_iload hx hb dX5_pacesFrom_54 (lv_at hl 0 rfl) ?_
    refine lv_ineg hx hb dX5_pacesFrom_56 ?_
    exact b_X5_pacesFrom_57 X _ hk3 _ _ _ _ _ _ _ _ _ _ _ _ _ _ _ hp (lv_sub hl [1, 2, 3, 4, 5, 6, 7, 8] rfl) hF
  · have hF := if_n c6 hF
    refine lv_iload hx hb dX5_pacesFrom_49 (lv_at hl 0 rfl) ?_
    refine lv_goto (tgt := 57) hx hb dX5_pacesFrom_51 (by decide) ?_
    exact b_X5_pacesFrom_57 X _ hk3 _ _ _ _ _ _ _ _ _ _ _ _ _ _ _ hp (lv_sub hl [1, 2, 3, 4, 5, 6, 7, 8] rfl) hF
def fb_X5_pacesFrom_22 (S : mSh) (k3 : mMm → Nat → Int32 → Int32 → Int32 → Int32 → Int32 → Int32 → Option mMm) (M : mMm) (x0 : Nat) (x1 : Int32) (x2 : Int32) (x3 : Int32) (x4 : Int32) (x5 : Int32) (x6 : Int32) (y0 : Int32) : Option mMm := (if (4 : Int32) ≤ x6 then (fb_X5_pacesFrom_36 S k3 M x0 x1 x2 x3 x4 x5 x6 y0 x3) else (fb_X5_pacesFrom_36 S k3 M x0 x1 x2 x3 x4 x5 x6 y0 x4))
theorem b_X5_pacesFrom_22 {M' : mMm} (X : mCx D n0 P p m c cX5_pacesFrom 10 s args yX5_pacesFrom.cls meth none) (k3 : mMm → Nat → Int32 → Int32 → Int32 → Int32 → Int32 → Int32 → Option mMm) (hk3 : ∀ (M : mMm) (x0 : Nat) (x1 : Int32) (x2 : Int32) (x3 : Int32) (x4 : Int32) (x5 : Int32) (x6 : Int32) (H : Heap) (locs : List Loc) (ls : Array Slot), mHp D n0 S M n s H locs → lv_has ls 10 [(0, .ref x0), (1, .int x1), (2, .int x2), (3, .int x3), (4, .int x4), (5, .int x5), (6, .int x6)] → k3 M x0 x1 x2 x3 x4 x5 x6 = some M' → W p l e Rm_X5_pacesFrom s m args below meth c H locs 0 0 (MQ below (mQ D n0 none S M' n) args s 0 0 (mA n0)) (F0 m 3 ls [])) : ∀ (M : mMm) (x0 : Nat) (x1 : Int32) (x2 : Int32) (x3 : Int32) (x4 : Int32) (x5 : Int32) (x6 : Int32) (y0 : Int32) (H : Heap) (locs : List Loc) (ls : Array Slot), mHp D n0 S M n s H locs → lv_has ls 10 [(0, .ref x0), (1, .int x1), (2, .int x2), (3, .int x3), (4, .int x4), (5, .int x5), (6, .int x6)] → fb_X5_pacesFrom_22 S k3 M x0 x1 x2 x3 x4 x5 x6 y0 = some M' → W p l e Rm_X5_pacesFrom s m args below meth c H locs 0 0 (MQ below (mQ D n0 none S M' n) args s 0 0 (mA n0)) (F0 m 22 ls [.int y0]) := by
  have hx := X.1.1
  have hb := X.1.2.1
  have hown := X.1.2.2.2.1
  have hts := X.1.2.2.2.2
  intro M x0 x1 x2 x3 x4 x5 x6 y0 H locs ls hp hl hF
  unfold fb_X5_pacesFrom_22 at hF
  refine lv_istore (lv' := [(7, .int y0), (0, .ref x0), (1, .int x1), (2, .int x2), (3, .int x3), (4, .int x4), (5, .int x5), (6, .int x6)]) hx hb dX5_pacesFrom_22 hl (by decide) rfl (fun ls hl => ?_)
  refine lv_iload hx hb dX5_pacesFrom_24 (lv_at hl 7 rfl) ?_
  refine lv_iconst (v := 4) hx hb dX5_pacesFrom_26 (by decide) ?_
  refine lv_icmp_ge (tgt := 35) hx hb dX5_pacesFrom_27 (by decide) (fun c5 => ?_) (fun c5 => ?_)
  · have hF := if_p c5 hF
    refine lv_iload_n hx hb dX5_pacesFrom_35 rfl (lv_at hl 4 rfl) ?_
    exact b_X5_pacesFrom_36 X _ hk3 _ _ _ _ _ _ _ _ _ _ _ _ _ hp (lv_sub hl [1, 2, 3, 4, 5, 6, 7, 0] rfl) hF
  · have hF := if_n c5 hF
    refine lv_iload hx hb dX5_pacesFrom_30 (lv_at hl 5 rfl) ?_
    refine lv_goto (tgt := 36) hx hb dX5_pacesFrom_32 (by decide) ?_
    exact b_X5_pacesFrom_36 X _ hk3 _ _ _ _ _ _ _ _ _ _ _ _ _ hp (lv_sub hl [1, 2, 3, 4, 5, 6, 7, 0] rfl) hF
def fb_X5_pacesFrom_3 (S : mSh) : Nat → mMm → Nat → Int32 → Int32 → Int32 → Int32 → Int32 → Int32 → Option mMm
  | 0, _, _, _, _, _, _, _, _ => none
  | t + 1, M, x0, x1, x2, x3, x4, x5, x6 => (if (8 : Int32) ≤ x6 then some M else (if (4 : Int32) ≤ x6 then (fb_X5_pacesFrom_22 S (fb_X5_pacesFrom_3 S t) M x0 x1 x2 x3 x4 x5 x6 x4) else (fb_X5_pacesFrom_22 S (fb_X5_pacesFrom_3 S t) M x0 x1 x2 x3 x4 x5 x6 x3)))
theorem b_X5_pacesFrom_3 {M' : mMm} (X : mCx D n0 P p m c cX5_pacesFrom 10 s args yX5_pacesFrom.cls meth none) : ∀ t : Nat, ∀ (M : mMm) (x0 : Nat) (x1 : Int32) (x2 : Int32) (x3 : Int32) (x4 : Int32) (x5 : Int32) (x6 : Int32) (H : Heap) (locs : List Loc) (ls : Array Slot), mHp D n0 S M n s H locs → lv_has ls 10 [(0, .ref x0), (1, .int x1), (2, .int x2), (3, .int x3), (4, .int x4), (5, .int x5), (6, .int x6)] → fb_X5_pacesFrom_3 S t M x0 x1 x2 x3 x4 x5 x6 = some M' → W p l e Rm_X5_pacesFrom s m args below meth c H locs 0 0 (MQ below (mQ D n0 none S M' n) args s 0 0 (mA n0)) (F0 m 3 ls []) := by
  have hx := X.1.1
  have hb := X.1.2.1
  have hown := X.1.2.2.2.1
  have hts := X.1.2.2.2.2
  intro t
  induction t with
  | zero =>
    intro M x0 x1 x2 x3 x4 x5 x6 H locs ls hp hl hF
    have hF : none = some M' := hF
    cases hF
  | succ t ih =>
    intro M x0 x1 x2 x3 x4 x5 x6 H locs ls hp hl hF
    rw [fb_X5_pacesFrom_3] at hF
    refine lv_iload hx hb dX5_pacesFrom_3 (lv_at hl 6 rfl) ?_
    refine lv_bipush (v := 8) hx hb dX5_pacesFrom_5 (by decide) ?_
    refine lv_icmp_ge (tgt := 107) hx hb dX5_pacesFrom_7 (by decide) (fun c3 => ?_) (fun c3 => ?_)
    · have hF := if_p c3 hF
      cases hF
      exact m_vret X hp dX5_pacesFrom_107
    · have hF := if_n c3 hF
      refine lv_iload hx hb dX5_pacesFrom_10 (lv_at hl 6 rfl) ?_
      refine lv_iconst (v := 4) hx hb dX5_pacesFrom_12 (by decide) ?_
      refine lv_icmp_ge (tgt := 20) hx hb dX5_pacesFrom_13 (by decide) (fun c4 => ?_) (fun c4 => ?_)
      · have hF := if_p c4 hF
        refine lv_iload hx hb dX5_pacesFrom_20 (lv_at hl 4 rfl) ?_
        exact b_X5_pacesFrom_22 X _ ih _ _ _ _ _ _ _ _ _ _ _ _ hp (lv_sub hl [0, 1, 2, 3, 4, 5, 6] rfl) hF
      · have hF := if_n c4 hF
        refine lv_iload_n hx hb dX5_pacesFrom_16 rfl (lv_at hl 3 rfl) ?_
        refine lv_goto (tgt := 22) hx hb dX5_pacesFrom_17 (by decide) ?_
        exact b_X5_pacesFrom_22 X _ ih _ _ _ _ _ _ _ _ _ _ _ _ hp (lv_sub hl [0, 1, 2, 3, 4, 5, 6] rfl) hF
def f_X5_pacesFrom (S : mSh) (M : mMm) (x0 : Nat) (x1 : Int32) (x2 : Int32) (x3 : Int32) (x4 : Int32) (x5 : Int32) : Option mMm := nm ((0 : Int32)) fun v1 => (fb_X5_pacesFrom_3 S FU M x0 x1 x2 x3 x4 x5 v1)
theorem w_X5_pacesFrom {x0 : Nat} {x1 : Int32} {x2 : Int32} {x3 : Int32} {x4 : Int32} {x5 : Int32} {M' : mMm} (hF : f_X5_pacesFrom S M x0 x1 x2 x3 x4 x5 = some M') : mCt l D n0 P yX5_pacesFrom cX5_pacesFrom 10 none 0 0 0 0 [.ref x0, .int x1, .int x2, .int x3, .int x4, .int x5] S M n none S M' n := by
  refine m_ofW (by decide) (Nat.le_of_ble_eq_true rfl) (fun p e s m below meth c X hnm hp ls hl => ?_)
  have hx := X.1.1
  have hb := X.1.2.1
  have hown := X.1.2.2.2.1
  have hts := X.1.2.2.2.2
  have hl : lv_has ls 10 [(0, .ref x0), (1, .int x1), (2, .int x2), (3, .int x3), (4, .int x4), (5, .int x5)] := hl
  unfold f_X5_pacesFrom at hF
  refine lv_iconst (v := 0) hx hb dX5_pacesFrom_0 (by decide) ?_
  refine lv_topi (fun v1 ev2 => ?_)
  have hF := nm_s hF ev2
  refine lv_istore (lv' := [(6, .int v1), (0, .ref x0), (1, .int x1), (2, .int x2), (3, .int x3), (4, .int x4), (5, .int x5)]) hx hb dX5_pacesFrom_1 hl (by decide) rfl (fun ls hl => ?_)
  exact b_X5_pacesFrom_3 X _ _ _ _ _ _ _ _ _ _ _ _ hp (lv_sub hl [1, 2, 3, 4, 5, 6, 0] rfl) hF
end
section
variable {l : Launch} {D : va_G} {n0 : Nat} {P : mP} {S : mSh} {M : mMm} {n : Nat} {p : Program} {e : Env} {s : State} {m : MethodId} {args : Array Value} {below : List Frame} {meth : Method} {c : Code}
abbrev Rm_X5_duel : Room := { frames := 1, cells := 0, slots := 0, locals := 29 }
def fb_X5_duel_198 (S : mSh) (k154 : mMm → Nat → Int32 → Int32 → Int32 → Int32 → Int32 → Int32 → Int32 → Option (Int32 × mMm)) (M : mMm) (x0 : Nat) (x4 : Int32) (x5 : Int32) (x6 : Int32) (x7 : Int32) (x8 : Int32) (x9 : Int32) (x10 : Int32) : Option (Int32 × mMm) := nm (x10 + (1 : Int32)) fun v57 => (k154 M x0 x4 x5 x6 x7 x8 x9 v57)
theorem b_X5_duel_198 {r : Int32} {M' : mMm} (X : mCx D n0 P p m c cX5_duel 11 s args yX5_duel.cls meth (some .int)) (k154 : mMm → Nat → Int32 → Int32 → Int32 → Int32 → Int32 → Int32 → Int32 → Option (Int32 × mMm)) (hk154 : ∀ (M : mMm) (x0 : Nat) (x4 : Int32) (x5 : Int32) (x6 : Int32) (x7 : Int32) (x8 : Int32) (x9 : Int32) (x10 : Int32) (H : Heap) (locs : List Loc) (ls : Array Slot), mHp D n0 S M n s H locs → lv_has ls 11 [(0, .ref x0), (4, .int x4), (5, .int x5), (6, .int x6), (7, .int x7), (8, .int x8), (9, .int x9), (10, .int x10)] → k154 M x0 x4 x5 x6 x7 x8 x9 x10 = some (r, M') → W p l e Rm_X5_duel s m args below meth c H locs 0 0 (MQ below (mQ D n0 (some (.int r)) S M' n) args s 0 0 (mA n0)) (F0 m 154 ls [])) : ∀ (M : mMm) (x0 : Nat) (x4 : Int32) (x5 : Int32) (x6 : Int32) (x7 : Int32) (x8 : Int32) (x9 : Int32) (x10 : Int32) (H : Heap) (locs : List Loc) (ls : Array Slot), mHp D n0 S M n s H locs → lv_has ls 11 [(0, .ref x0), (4, .int x4), (5, .int x5), (6, .int x6), (7, .int x7), (8, .int x8), (9, .int x9), (10, .int x10)] → fb_X5_duel_198 S k154 M x0 x4 x5 x6 x7 x8 x9 x10 = some (r, M') → W p l e Rm_X5_duel s m args below meth c H locs 0 0 (MQ below (mQ D n0 (some (.int r)) S M' n) args s 0 0 (mA n0)) (F0 m 198 ls []) := by
  have hx := X.1.1
  have hb := X.1.2.1
  have hown := X.1.2.2.2.1
  have hts := X.1.2.2.2.2
  intro M x0 x4 x5 x6 x7 x8 x9 x10 H locs ls hp hl hF
  unfold fb_X5_duel_198 at hF
  obtain ⟨v57, ev58⟩ : ∃ y : Int32, y = x10 + (1 : Int32) := ⟨_, rfl⟩
  have hF := nm_s hF ev58
  refine lv_iinc (v := v57) (lv' := [(10, .int v57), (0, .ref x0), (4, .int x4), (5, .int x5), (6, .int x6), (7, .int x7), (8, .int x8), (9, .int x9)]) hx hb dX5_duel_198 hl (k := 7) rfl (by rw [ev58]; rfl) (by decide) rfl (fun ls hl => ?_)
  refine lv_goto (tgt := 154) hx hb dX5_duel_201 (by decide) ?_
  exact hk154 _ _ _ _ _ _ _ _ _ _ _ _ hp (lv_sub hl [1, 2, 3, 4, 5, 6, 7, 0] rfl) hF
def fb_X5_duel_154 (S : mSh) (k137 : mMm → Nat → Int32 → Int32 → Int32 → Int32 → Int32 → Int32 → Option (Int32 × mMm)) : Nat → mMm → Nat → Int32 → Int32 → Int32 → Int32 → Int32 → Int32 → Int32 → Option (Int32 × mMm)
  | 0, _, _, _, _, _, _, _, _, _ => none
  | t + 1, M, x0, x4, x5, x6, x7, x8, x9, x10 => (if ((60 : Int32) + x7) < x10 then nm (x9 + (1 : Int32)) fun v47 => (k137 M x0 x4 x5 x6 x7 x8 v47) else ob (rR S M x0 6 33) fun v49 => ob (aI S M v49 100 (((121 : Int32) * x9) + x10)) fun v51 => (if v51 = x8 then ob (f_X5_pacesFrom S M x0 x10 x9 x4 x5 (x8 + (1 : Int32))) fun M56 => (fb_X5_duel_198 S (fb_X5_duel_154 S k137 t) M56 x0 x4 x5 x6 x7 x8 x9 x10) else (fb_X5_duel_198 S (fb_X5_duel_154 S k137 t) M x0 x4 x5 x6 x7 x8 x9 x10)))
theorem b_X5_duel_154 {r : Int32} {M' : mMm} (X : mCx D n0 P p m c cX5_duel 11 s args yX5_duel.cls meth (some .int)) (k137 : mMm → Nat → Int32 → Int32 → Int32 → Int32 → Int32 → Int32 → Option (Int32 × mMm)) (hk137 : ∀ (M : mMm) (x0 : Nat) (x4 : Int32) (x5 : Int32) (x6 : Int32) (x7 : Int32) (x8 : Int32) (x9 : Int32) (H : Heap) (locs : List Loc) (ls : Array Slot), mHp D n0 S M n s H locs → lv_has ls 11 [(0, .ref x0), (4, .int x4), (5, .int x5), (6, .int x6), (7, .int x7), (8, .int x8), (9, .int x9)] → k137 M x0 x4 x5 x6 x7 x8 x9 = some (r, M') → W p l e Rm_X5_duel s m args below meth c H locs 0 0 (MQ below (mQ D n0 (some (.int r)) S M' n) args s 0 0 (mA n0)) (F0 m 137 ls [])) : ∀ t : Nat, ∀ (M : mMm) (x0 : Nat) (x4 : Int32) (x5 : Int32) (x6 : Int32) (x7 : Int32) (x8 : Int32) (x9 : Int32) (x10 : Int32) (H : Heap) (locs : List Loc) (ls : Array Slot), mHp D n0 S M n s H locs → lv_has ls 11 [(0, .ref x0), (4, .int x4), (5, .int x5), (6, .int x6), (7, .int x7), (8, .int x8), (9, .int x9), (10, .int x10)] → fb_X5_duel_154 S k137 t M x0 x4 x5 x6 x7 x8 x9 x10 = some (r, M') → W p l e Rm_X5_duel s m args below meth c H locs 0 0 (MQ below (mQ D n0 (some (.int r)) S M' n) args s 0 0 (mA n0)) (F0 m 154 ls []) := by
  have hx := X.1.1
  have hb := X.1.2.1
  have hown := X.1.2.2.2.1
  have hts := X.1.2.2.2.2
  intro t
  induction t with
  | zero =>
    intro M x0 x4 x5 x6 x7 x8 x9 x10 H locs ls hp hl hF
    have hF : none = some (r, M') := hF
    cases hF
  | succ t ih =>
    intro M x0 x4 x5 x6 x7 x8 x9 x10 H locs ls hp hl hF
    rw [fb_X5_duel_154] at hF
    refine lv_iload hx hb dX5_duel_154 (lv_at hl 7 rfl) ?_
    refine lv_bipush (v := 60) hx hb dX5_duel_156 (by decide) ?_
    refine lv_iload hx hb dX5_duel_158 (lv_at hl 4 rfl) ?_
    refine lv_iadd hx hb dX5_duel_160 ?_
    refine lv_icmp_gt (tgt := 204) hx hb dX5_duel_161 (by decide) (fun c46 => ?_) (fun c46 => ?_)
    · have hF := if_p c46 hF
      obtain ⟨v47, ev48⟩ : ∃ y : Int32, y = x9 + (1 : Int32) := ⟨_, rfl⟩
      have hF := nm_s hF ev48
      refine lv_iinc (v := v47) (lv' := [(9, .int v47), (0, .ref x0), (4, .int x4), (5, .int x5), (6, .int x6), (7, .int x7), (8, .int x8), (10, .int x10)]) hx hb dX5_duel_204 hl (k := 6) rfl (by rw [ev48]; rfl) (by decide) rfl (fun ls hl => ?_)
      refine lv_goto (tgt := 137) hx hb dX5_duel_207 (by decide) ?_
      exact hk137 _ _ _ _ _ _ _ _ _ _ _ hp (lv_sub hl [1, 2, 3, 4, 5, 6, 0] rfl) hF
    · have hF := if_n c46 hF
      refine lv_aload_n hx hb dX5_duel_164 rfl (lv_at hl 0 rfl) ?_
      obtain ⟨v49, e50, hF⟩ := ob_s hF
      refine m_getR X hp e50 kX5 (Nat.le_of_ble_eq_true rfl) q1492 dX5_duel_165 ?_
      refine lv_bipush (v := 121) hx hb dX5_duel_168 (by decide) ?_
      refine lv_iload hx hb dX5_duel_170 (lv_at hl 6 rfl) ?_
      refine lv_imul hx hb dX5_duel_172 ?_
      refine lv_iload hx hb dX5_duel_173 (lv_at hl 7 rfl) ?_
      refine lv_iadd hx hb dX5_duel_175 ?_
      obtain ⟨v51, e52, hF⟩ := ob_s hF
      refine m_iaI X hp e52 dX5_duel_176 ?_
      refine lv_iload hx hb dX5_duel_177 (lv_at hl 5 rfl) ?_
      refine lv_icmp_ne (tgt := 198) hx hb dX5_duel_179 (by decide) (fun c53 => ?_) (fun c53 => ?_)
      · have hF := if_n c53 hF
        exact b_X5_duel_198 X _ ih _ _ _ _ _ _ _ _ _ _ _ _ hp (lv_sub hl [0, 1, 2, 3, 4, 5, 6, 7] rfl) hF
      · have hF := if_p c53 hF
        refine lv_aload_n hx hb dX5_duel_182 rfl (lv_at hl 0 rfl) ?_
        refine lv_iload hx hb dX5_duel_183 (lv_at hl 7 rfl) ?_
        refine lv_iload hx hb dX5_duel_185 (lv_at hl 6 rfl) ?_
        refine lv_iload hx hb dX5_duel_187 (lv_at hl 1 rfl) ?_
        refine lv_iload hx hb dX5_duel_189 (lv_at hl 2 rfl) ?_
        refine lv_iload hx hb dX5_duel_191 (lv_at hl 5 rfl) ?_
        refine lv_iconst (v := 1) hx hb dX5_duel_193 (by decide) ?_
        refine lv_iadd hx hb dX5_duel_194 ?_
        obtain ⟨M56, e54, hF⟩ := ob_s hF
        refine m_callV (As := [.int x10, .int x9, .int x4, .int x5, .int (x8 + (1 : Int32))]) (rest := []) X hp (w_X5_pacesFrom e54) q2008 q2010 qs126 q144 q2011 5 rfl ds_X5_pacesFrom ⟨Nat.le_of_ble_eq_true rfl, Nat.le_of_ble_eq_true rfl⟩ 6 (T := TX5) (N := 40) rfl (by decide) (rR_s e50).1 hl.1 rfl (Nat.le_of_ble_eq_true rfl) dX5_duel_195 ⟨Nat.le_refl 0, Nat.le_refl 0⟩ (fun H locs hp => ?_)
        exact b_X5_duel_198 X _ ih _ _ _ _ _ _ _ _ _ _ _ _ hp (lv_sub hl [0, 1, 2, 3, 4, 5, 6, 7] rfl) hF
def fb_X5_duel_226 (S : mSh) (k110 : mMm → Nat → Int32 → Int32 → Int32 → Int32 → Int32 → Option (Int32 × mMm)) (M : mMm) (x0 : Nat) (x4 : Int32) (x5 : Int32) (x6 : Int32) (x8 : Int32) (y0 : Int32) (y1 : Int32) : Option (Int32 × mMm) := nm ((y1 + y0)) fun v59 => nm (x8 + (1 : Int32)) fun v61 => (k110 M x0 x4 x5 x6 v59 v61)
theorem b_X5_duel_226 {r : Int32} {M' : mMm} (X : mCx D n0 P p m c cX5_duel 11 s args yX5_duel.cls meth (some .int)) (k110 : mMm → Nat → Int32 → Int32 → Int32 → Int32 → Int32 → Option (Int32 × mMm)) (hk110 : ∀ (M : mMm) (x0 : Nat) (x4 : Int32) (x5 : Int32) (x6 : Int32) (x7 : Int32) (x8 : Int32) (H : Heap) (locs : List Loc) (ls : Array Slot), mHp D n0 S M n s H locs → lv_has ls 11 [(0, .ref x0), (4, .int x4), (5, .int x5), (6, .int x6), (7, .int x7), (8, .int x8)] → k110 M x0 x4 x5 x6 x7 x8 = some (r, M') → W p l e Rm_X5_duel s m args below meth c H locs 0 0 (MQ below (mQ D n0 (some (.int r)) S M' n) args s 0 0 (mA n0)) (F0 m 110 ls [])) : ∀ (M : mMm) (x0 : Nat) (x4 : Int32) (x5 : Int32) (x6 : Int32) (x8 : Int32) (y0 : Int32) (y1 : Int32) (H : Heap) (locs : List Loc) (ls : Array Slot), mHp D n0 S M n s H locs → lv_has ls 11 [(0, .ref x0), (4, .int x4), (5, .int x5), (6, .int x6), (8, .int x8)] → fb_X5_duel_226 S k110 M x0 x4 x5 x6 x8 y0 y1 = some (r, M') → W p l e Rm_X5_duel s m args below meth c H locs 0 0 (MQ below (mQ D n0 (some (.int r)) S M' n) args s 0 0 (mA n0)) (F0 m 226 ls [.int y0, .int y1]) := by
  have hx := X.1.1
  have hb := X.1.2.1
  have hown := X.1.2.2.2.1
  have hts := X.1.2.2.2.2
  intro M x0 x4 x5 x6 x8 y0 y1 H locs ls hp hl hF
  unfold fb_X5_duel_226 at hF
  refine lv_iadd hx hb dX5_duel_226 ?_
  refine lv_topi (fun v59 ev60 => ?_)
  have hF := nm_s hF ev60
  refine lv_istore (lv' := [(7, .int v59), (0, .ref x0), (4, .int x4), (5, .int x5), (6, .int x6), (8, .int x8)]) hx hb dX5_duel_227 hl (by decide) rfl (fun ls hl => ?_)
  obtain ⟨v61, ev62⟩ : ∃ y : Int32, y = x8 + (1 : Int32) := ⟨_, rfl⟩
  have hF := nm_s hF ev62
  refine lv_iinc (v := v61) (lv' := [(8, .int v61), (7, .int v59), (0, .ref x0), (4, .int x4), (5, .int x5), (6, .int x6)]) hx hb dX5_duel_229 hl (k := 5) rfl (by rw [ev62]; rfl) (by decide) rfl (fun ls hl => ?_)
  refine lv_goto (tgt := 110) hx hb dX5_duel_232 (by decide) ?_
  exact hk110 _ _ _ _ _ _ _ _ _ _ hp (lv_sub hl [2, 3, 4, 5, 1, 0] rfl) hF
def fb_X5_duel_137 (S : mSh) (k110 : mMm → Nat → Int32 → Int32 → Int32 → Int32 → Int32 → Option (Int32 × mMm)) : Nat → mMm → Nat → Int32 → Int32 → Int32 → Int32 → Int32 → Int32 → Option (Int32 × mMm)
  | 0, _, _, _, _, _, _, _, _ => none
  | t + 1, M, x0, x4, x5, x6, x7, x8, x9 => (if ((60 : Int32) + x7) < x9 then (if x4 ≤ x5 then (fb_X5_duel_226 S k110 M x0 x4 x5 x6 x8 x5 x7) else (fb_X5_duel_226 S k110 M x0 x4 x5 x6 x8 x4 x7)) else nm (((60 : Int32) - x7)) fun v44 => (fb_X5_duel_154 S (fb_X5_duel_137 S k110 t) FU M x0 x4 x5 x6 x7 x8 x9 v44))
theorem b_X5_duel_137 {r : Int32} {M' : mMm} (X : mCx D n0 P p m c cX5_duel 11 s args yX5_duel.cls meth (some .int)) (k110 : mMm → Nat → Int32 → Int32 → Int32 → Int32 → Int32 → Option (Int32 × mMm)) (hk110 : ∀ (M : mMm) (x0 : Nat) (x4 : Int32) (x5 : Int32) (x6 : Int32) (x7 : Int32) (x8 : Int32) (H : Heap) (locs : List Loc) (ls : Array Slot), mHp D n0 S M n s H locs → lv_has ls 11 [(0, .ref x0), (4, .int x4), (5, .int x5), (6, .int x6), (7, .int x7), (8, .int x8)] → k110 M x0 x4 x5 x6 x7 x8 = some (r, M') → W p l e Rm_X5_duel s m args below meth c H locs 0 0 (MQ below (mQ D n0 (some (.int r)) S M' n) args s 0 0 (mA n0)) (F0 m 110 ls [])) : ∀ t : Nat, ∀ (M : mMm) (x0 : Nat) (x4 : Int32) (x5 : Int32) (x6 : Int32) (x7 : Int32) (x8 : Int32) (x9 : Int32) (H : Heap) (locs : List Loc) (ls : Array Slot), mHp D n0 S M n s H locs → lv_has ls 11 [(0, .ref x0), (4, .int x4), (5, .int x5), (6, .int x6), (7, .int x7), (8, .int x8), (9, .int x9)] → fb_X5_duel_137 S k110 t M x0 x4 x5 x6 x7 x8 x9 = some (r, M') → W p l e Rm_X5_duel s m args below meth c H locs 0 0 (MQ below (mQ D n0 (some (.int r)) S M' n) args s 0 0 (mA n0)) (F0 m 137 ls []) := by
  have hx := X.1.1
  have hb := X.1.2.1
  have hown := X.1.2.2.2.1
  have hts := X.1.2.2.2.2
  intro t
  induction t with
  | zero =>
    intro M x0 x4 x5 x6 x7 x8 x9 H locs ls hp hl hF
    have hF : none = some (r, M') := hF
    cases hF
  | succ t ih =>
    intro M x0 x4 x5 x6 x7 x8 x9 H locs ls hp hl hF
    rw [fb_X5_duel_137] at hF
    refine lv_iload hx hb dX5_duel_137 (lv_at hl 6 rfl) ?_
    refine lv_bipush (v := 60) hx hb dX5_duel_139 (by decide) ?_
    refine lv_iload hx hb dX5_duel_141 (lv_at hl 4 rfl) ?_
    refine lv_iadd hx hb dX5_duel_143 ?_
    refine lv_icmp_gt (tgt := 210) hx hb dX5_duel_144 (by decide) (fun c42 => ?_) (fun c42 => ?_)
    · have hF := if_p c42 hF
      refine lv_iload hx hb dX5_duel_210 (lv_at hl 4 rfl) ?_
      refine lv_iload hx hb dX5_duel_212 (lv_at hl 1 rfl) ?_
      refine lv_iload hx hb dX5_duel_214 (lv_at hl 2 rfl) ?_
      refine lv_icmp_le (tgt := 224) hx hb dX5_duel_216 (by decide) (fun c43 => ?_) (fun c43 => ?_)
      · have hF := if_p c43 hF
        refine lv_iload hx hb dX5_duel_224 (lv_at hl 2 rfl) ?_
        exact b_X5_duel_226 X _ hk110 _ _ _ _ _ _ _ _ _ _ _ hp (lv_sub hl [0, 1, 2, 3, 5] rfl) hF
      · have hF := if_n c43 hF
        refine lv_iload hx hb dX5_duel_219 (lv_at hl 1 rfl) ?_
        refine lv_goto (tgt := 226) hx hb dX5_duel_221 (by decide) ?_
        exact b_X5_duel_226 X _ hk110 _ _ _ _ _ _ _ _ _ _ _ hp (lv_sub hl [0, 1, 2, 3, 5] rfl) hF
    · have hF := if_n c42 hF
      refine lv_bipush (v := 60) hx hb dX5_duel_147 (by decide) ?_
      refine lv_iload hx hb dX5_duel_149 (lv_at hl 4 rfl) ?_
      refine lv_isub hx hb dX5_duel_151 ?_
      refine lv_topi (fun v44 ev45 => ?_)
      have hF := nm_s hF ev45
      refine lv_istore (lv' := [(10, .int v44), (0, .ref x0), (4, .int x4), (5, .int x5), (6, .int x6), (7, .int x7), (8, .int x8), (9, .int x9)]) hx hb dX5_duel_152 hl (by decide) rfl (fun ls hl => ?_)
      exact b_X5_duel_154 X _ ih _ _ _ _ _ _ _ _ _ _ _ _ _ hp (lv_sub hl [1, 2, 3, 4, 5, 6, 7, 0] rfl) hF
def fb_X5_duel_235 (S : mSh) (M : mMm) (x0 : Nat) (x6 : Int32) : Option (Int32 × mMm) := ob (rR S M x0 6 33) fun v63 => ob (aI S M v63 100 x6) fun v65 => (if v65 = (9999 : Int32) then some ((-1 : Int32), M) else ob (rR S M x0 6 33) fun v68 => ob (aI S M v68 100 x6) fun v70 => some (v70, M))
theorem b_X5_duel_235 {r : Int32} {M' : mMm} (X : mCx D n0 P p m c cX5_duel 11 s args yX5_duel.cls meth (some .int)) : ∀ (M : mMm) (x0 : Nat) (x6 : Int32) (H : Heap) (locs : List Loc) (ls : Array Slot), mHp D n0 S M n s H locs → lv_has ls 11 [(0, .ref x0), (6, .int x6)] → fb_X5_duel_235 S M x0 x6 = some (r, M') → W p l e Rm_X5_duel s m args below meth c H locs 0 0 (MQ below (mQ D n0 (some (.int r)) S M' n) args s 0 0 (mA n0)) (F0 m 235 ls []) := by
  have hx := X.1.1
  have hb := X.1.2.1
  have hown := X.1.2.2.2.1
  have hts := X.1.2.2.2.2
  intro M x0 x6 H locs ls hp hl hF
  unfold fb_X5_duel_235 at hF
  refine lv_aload_n hx hb dX5_duel_235 rfl (lv_at hl 0 rfl) ?_
  obtain ⟨v63, e64, hF⟩ := ob_s hF
  refine m_getR X hp e64 kX5 (Nat.le_of_ble_eq_true rfl) q1492 dX5_duel_236 ?_
  refine lv_iload hx hb dX5_duel_239 (lv_at hl 1 rfl) ?_
  obtain ⟨v65, e66, hF⟩ := ob_s hF
  refine m_iaI X hp e66 dX5_duel_241 ?_
  refine lv_sipush (v := 9999) hx hb dX5_duel_242 (by decide) ?_
  refine lv_icmp_ne (tgt := 252) hx hb dX5_duel_245 (by decide) (fun c67 => ?_) (fun c67 => ?_)
  · have hF := if_n c67 hF
    refine lv_aload_n hx hb dX5_duel_252 rfl (lv_at hl 0 rfl) ?_
    obtain ⟨v68, e69, hF⟩ := ob_s hF
    refine m_getR X hp e69 kX5 (Nat.le_of_ble_eq_true rfl) q1492 dX5_duel_253 ?_
    refine lv_iload hx hb dX5_duel_256 (lv_at hl 1 rfl) ?_
    obtain ⟨v70, e71, hF⟩ := ob_s hF
    refine m_iaI X hp e71 dX5_duel_258 ?_
    cases hF
    exact m_iret X hp dX5_duel_259
  · have hF := if_p c67 hF
    refine lv_iconst (v := -1) hx hb dX5_duel_248 (by decide) ?_
    refine lv_goto (tgt := 259) hx hb dX5_duel_249 (by decide) ?_
    cases hF
    exact m_iret X hp dX5_duel_259
def fb_X5_duel_110 (S : mSh) : Nat → mMm → Nat → Int32 → Int32 → Int32 → Int32 → Int32 → Option (Int32 × mMm)
  | 0, _, _, _, _, _, _, _ => none
  | t + 1, M, x0, x4, x5, x6, x7, x8 => (if (12 : Int32) ≤ x8 then (fb_X5_duel_235 S M x0 x6) else ob (rR S M x0 6 33) fun v35 => ob (aI S M v35 100 x6) fun v37 => (if v37 = (9999 : Int32) then nm (((60 : Int32) - x7)) fun v40 => (fb_X5_duel_137 S (fb_X5_duel_110 S t) FU M x0 x4 x5 x6 x7 x8 v40) else (fb_X5_duel_235 S M x0 x6)))
theorem b_X5_duel_110 {r : Int32} {M' : mMm} (X : mCx D n0 P p m c cX5_duel 11 s args yX5_duel.cls meth (some .int)) : ∀ t : Nat, ∀ (M : mMm) (x0 : Nat) (x4 : Int32) (x5 : Int32) (x6 : Int32) (x7 : Int32) (x8 : Int32) (H : Heap) (locs : List Loc) (ls : Array Slot), mHp D n0 S M n s H locs → lv_has ls 11 [(0, .ref x0), (4, .int x4), (5, .int x5), (6, .int x6), (7, .int x7), (8, .int x8)] → fb_X5_duel_110 S t M x0 x4 x5 x6 x7 x8 = some (r, M') → W p l e Rm_X5_duel s m args below meth c H locs 0 0 (MQ below (mQ D n0 (some (.int r)) S M' n) args s 0 0 (mA n0)) (F0 m 110 ls []) := by
  have hx := X.1.1
  have hb := X.1.2.1
  have hown := X.1.2.2.2.1
  have hts := X.1.2.2.2.2
  intro t
  induction t with
  | zero =>
    intro M x0 x4 x5 x6 x7 x8 H locs ls hp hl hF
    have hF : none = some (r, M') := hF
    cases hF
  | succ t ih =>
    intro M x0 x4 x5 x6 x7 x8 H locs ls hp hl hF
    rw [fb_X5_duel_110] at hF
    refine lv_iload hx hb dX5_duel_110 (lv_at hl 5 rfl) ?_
    refine lv_bipush (v := 12) hx hb dX5_duel_112 (by decide) ?_
    refine lv_icmp_ge (tgt := 235) hx hb dX5_duel_114 (by decide) (fun c34 => ?_) (fun c34 => ?_)
    · have hF := if_p c34 hF
      exact b_X5_duel_235 X _ _ _ _ _ _ hp (lv_sub hl [0, 3] rfl) hF
    · have hF := if_n c34 hF
      refine lv_aload_n hx hb dX5_duel_117 rfl (lv_at hl 0 rfl) ?_
      obtain ⟨v35, e36, hF⟩ := ob_s hF
      refine m_getR X hp e36 kX5 (Nat.le_of_ble_eq_true rfl) q1492 dX5_duel_118 ?_
      refine lv_iload hx hb dX5_duel_121 (lv_at hl 3 rfl) ?_
      obtain ⟨v37, e38, hF⟩ := ob_s hF
      refine m_iaI X hp e38 dX5_duel_123 ?_
      refine lv_sipush (v := 9999) hx hb dX5_duel_124 (by decide) ?_
      refine lv_icmp_ne (tgt := 235) hx hb dX5_duel_127 (by decide) (fun c39 => ?_) (fun c39 => ?_)
      · have hF := if_n c39 hF
        exact b_X5_duel_235 X _ _ _ _ _ _ hp (lv_sub hl [0, 3] rfl) hF
      · have hF := if_p c39 hF
        refine lv_bipush (v := 60) hx hb dX5_duel_130 (by decide) ?_
        refine lv_iload hx hb dX5_duel_132 (lv_at hl 4 rfl) ?_
        refine lv_isub hx hb dX5_duel_134 ?_
        refine lv_topi (fun v40 ev41 => ?_)
        have hF := nm_s hF ev41
        refine lv_istore (lv' := [(9, .int v40), (0, .ref x0), (4, .int x4), (5, .int x5), (6, .int x6), (7, .int x7), (8, .int x8)]) hx hb dX5_duel_135 hl (by decide) rfl (fun ls hl => ?_)
        exact b_X5_duel_137 X _ ih _ _ _ _ _ _ _ _ _ _ _ _ hp (lv_sub hl [1, 2, 3, 4, 5, 6, 0] rfl) hF
def fb_X5_duel_71 (S : mSh) : Nat → mMm → Nat → Int32 → Int32 → Int32 → Int32 → Option (Int32 × mMm)
  | 0, _, _, _, _, _, _ => none
  | t + 1, M, x0, x4, x5, x6, x7 => (if (14641 : Int32) ≤ x7 then ob (rR S M x0 6 33) fun v20 => ob (wA S M v20 100 (7320 : Int32) (.int (0 : Int32))) fun M22 => nm ((0 : Int32)) fun v24 => nm ((0 : Int32)) fun v26 => (fb_X5_duel_110 S FU M22 x0 x4 x5 x6 v24 v26) else ob (rR S M x0 6 33) fun v28 => ob (wA S M v28 100 x7 (.int (9999 : Int32))) fun M30 => nm (x7 + (1 : Int32)) fun v32 => (fb_X5_duel_71 S t M30 x0 x4 x5 x6 v32))
theorem b_X5_duel_71 {r : Int32} {M' : mMm} (X : mCx D n0 P p m c cX5_duel 11 s args yX5_duel.cls meth (some .int)) : ∀ t : Nat, ∀ (M : mMm) (x0 : Nat) (x4 : Int32) (x5 : Int32) (x6 : Int32) (x7 : Int32) (H : Heap) (locs : List Loc) (ls : Array Slot), mHp D n0 S M n s H locs → lv_has ls 11 [(0, .ref x0), (4, .int x4), (5, .int x5), (6, .int x6), (7, .int x7)] → fb_X5_duel_71 S t M x0 x4 x5 x6 x7 = some (r, M') → W p l e Rm_X5_duel s m args below meth c H locs 0 0 (MQ below (mQ D n0 (some (.int r)) S M' n) args s 0 0 (mA n0)) (F0 m 71 ls []) := by
  have hx := X.1.1
  have hb := X.1.2.1
  have hown := X.1.2.2.2.1
  have hts := X.1.2.2.2.2
  intro t
  induction t with
  | zero =>
    intro M x0 x4 x5 x6 x7 H locs ls hp hl hF
    have hF : none = some (r, M') := hF
    cases hF
  | succ t ih =>
    intro M x0 x4 x5 x6 x7 H locs ls hp hl hF
    rw [fb_X5_duel_71] at hF
    refine lv_iload hx hb dX5_duel_71 (lv_at hl 4 rfl) ?_
    refine lv_sipush (v := 14641) hx hb dX5_duel_73 (by decide) ?_
    refine lv_icmp_ge (tgt := 95) hx hb dX5_duel_76 (by decide) (fun c19 => ?_) (fun c19 => ?_)
    · have hF := if_p c19 hF
      refine lv_aload_n hx hb dX5_duel_95 rfl (lv_at hl 0 rfl) ?_
      obtain ⟨v20, e21, hF⟩ := ob_s hF
      refine m_getR X hp e21 kX5 (Nat.le_of_ble_eq_true rfl) q1492 dX5_duel_96 ?_
      refine lv_sipush (v := 7320) hx hb dX5_duel_99 (by decide) ?_
      refine lv_iconst (v := 0) hx hb dX5_duel_102 (by decide) ?_
      obtain ⟨M22, e23, hF⟩ := ob_s hF
      refine m_iaW X hp e23 dX5_duel_103 (fun H locs hp => ?_)
      refine lv_iconst (v := 0) hx hb dX5_duel_104 (by decide) ?_
      refine lv_topi (fun v24 ev25 => ?_)
      have hF := nm_s hF ev25
      refine lv_istore (lv' := [(7, .int v24), (0, .ref x0), (4, .int x4), (5, .int x5), (6, .int x6)]) hx hb dX5_duel_105 hl (by decide) rfl (fun ls hl => ?_)
      refine lv_iconst (v := 0) hx hb dX5_duel_107 (by decide) ?_
      refine lv_topi (fun v26 ev27 => ?_)
      have hF := nm_s hF ev27
      refine lv_istore (lv' := [(8, .int v26), (7, .int v24), (0, .ref x0), (4, .int x4), (5, .int x5), (6, .int x6)]) hx hb dX5_duel_108 hl (by decide) rfl (fun ls hl => ?_)
      exact b_X5_duel_110 X _ _ _ _ _ _ _ _ _ _ _ hp (lv_sub hl [2, 3, 4, 5, 1, 0] rfl) hF
    · have hF := if_n c19 hF
      refine lv_aload_n hx hb dX5_duel_79 rfl (lv_at hl 0 rfl) ?_
      obtain ⟨v28, e29, hF⟩ := ob_s hF
      refine m_getR X hp e29 kX5 (Nat.le_of_ble_eq_true rfl) q1492 dX5_duel_80 ?_
      refine lv_iload hx hb dX5_duel_83 (lv_at hl 4 rfl) ?_
      refine lv_sipush (v := 9999) hx hb dX5_duel_85 (by decide) ?_
      obtain ⟨M30, e31, hF⟩ := ob_s hF
      refine m_iaW X hp e31 dX5_duel_88 (fun H locs hp => ?_)
      obtain ⟨v32, ev33⟩ : ∃ y : Int32, y = x7 + (1 : Int32) := ⟨_, rfl⟩
      have hF := nm_s hF ev33
      refine lv_iinc (v := v32) (lv' := [(7, .int v32), (0, .ref x0), (4, .int x4), (5, .int x5), (6, .int x6)]) hx hb dX5_duel_89 hl (k := 4) rfl (by rw [ev33]; rfl) (by decide) rfl (fun ls hl => ?_)
      refine lv_goto (tgt := 71) hx hb dX5_duel_92 (by decide) ?_
      exact ih _ _ _ _ _ _ _ _ _ hp (lv_sub hl [1, 2, 3, 4, 0] rfl) hF
def f_X5_duel (S : mSh) (M : mMm) (x0 : Nat) (x1 : Int32) (x2 : Int32) (x3 : Int32) : Option (Int32 × mMm) := ob (f_X5_within x1 (1 : Int32) (55 : Int32)) fun v2 => (if v2 = 0 then some ((-1 : Int32), M) else (if (5 : Int32) < (x1 - x1 / (10 : Int32) * (10 : Int32)) then some ((-1 : Int32), M) else ob (f_X5_within x2 (-20 : Int32) (20 : Int32)) fun v6 => (if v6 = 0 then some ((-1 : Int32), M) else ob (f_X5_within x3 (-20 : Int32) (20 : Int32)) fun v9 => (if v9 = 0 then some ((-1 : Int32), M) else nm ((x1 / (10 : Int32))) fun v11 => nm ((x1 - x1 / (10 : Int32) * (10 : Int32))) fun v13 => nm (((((121 : Int32) * ((60 : Int32) + x3)) + (60 : Int32)) + x2)) fun v15 => nm ((0 : Int32)) fun v17 => (fb_X5_duel_71 S FU M x0 v11 v13 v15 v17)))))
theorem w_X5_duel {x0 : Nat} {x1 : Int32} {x2 : Int32} {x3 : Int32} {r : Int32} {M' : mMm} (hF : f_X5_duel S M x0 x1 x2 x3 = some (r, M')) : mCt l D n0 P yX5_duel cX5_duel 11 (some .int) 1 29 0 0 [.ref x0, .int x1, .int x2, .int x3] S M n (some (.int r)) S M' n := by
  refine m_ofW (by decide) (Nat.le_of_ble_eq_true rfl) (fun p e s m below meth c X hnm hp ls hl => ?_)
  have hx := X.1.1
  have hb := X.1.2.1
  have hown := X.1.2.2.2.1
  have hts := X.1.2.2.2.2
  have hl : lv_has ls 11 [(0, .ref x0), (1, .int x1), (2, .int x2), (3, .int x3)] := hl
  unfold f_X5_duel at hF
  refine lv_iload_n hx hb dX5_duel_0 rfl (lv_at hl 1 rfl) ?_
  refine lv_iconst (v := 1) hx hb dX5_duel_1 (by decide) ?_
  refine lv_bipush (v := 55) hx hb dX5_duel_2 (by decide) ?_
  obtain ⟨v2, e1, hF⟩ := ob_s hF
  refine m_callS (As := [.int x1, .int (1 : Int32), .int (55 : Int32)]) (rest := []) X hp (w_X5_within e1) q1588 q1589 q144 q1590 3 rfl ds_X5_within ⟨Nat.le_of_ble_eq_true rfl, Nat.le_of_ble_eq_true rfl⟩ hl.1 rfl (Nat.le_of_ble_eq_true rfl) dX5_duel_4 ⟨Nat.le_refl 0, Nat.le_refl 0⟩ (fun H locs hp => ?_)
  refine lv_if_eq (tgt := 40) hx hb dX5_duel_7 (by decide) (fun c3 => ?_) (fun c3 => ?_)
  · have hF := if_p c3 hF
    refine lv_iconst (v := -1) hx hb dX5_duel_40 (by decide) ?_
    cases hF
    exact m_iret X hp dX5_duel_41
  · have hF := if_n c3 hF
    refine lv_iload_n hx hb dX5_duel_10 rfl (lv_at hl 1 rfl) ?_
    refine lv_bipush (v := 10) hx hb dX5_duel_11 (by decide) ?_
    refine lv_irem hx hb dX5_duel_13 (by decide) ?_
    refine lv_iconst (v := 5) hx hb dX5_duel_14 (by decide) ?_
    refine lv_icmp_gt (tgt := 40) hx hb dX5_duel_15 (by decide) (fun c4 => ?_) (fun c4 => ?_)
    · have hF := if_p c4 hF
      refine lv_iconst (v := -1) hx hb dX5_duel_40 (by decide) ?_
      cases hF
      exact m_iret X hp dX5_duel_41
    · have hF := if_n c4 hF
      refine lv_iload_n hx hb dX5_duel_18 rfl (lv_at hl 2 rfl) ?_
      refine lv_bipush (v := -20) hx hb dX5_duel_19 (by decide) ?_
      refine lv_bipush (v := 20) hx hb dX5_duel_21 (by decide) ?_
      obtain ⟨v6, e5, hF⟩ := ob_s hF
      refine m_callS (As := [.int x2, .int (-20 : Int32), .int (20 : Int32)]) (rest := []) X hp (w_X5_within e5) q1588 q1589 q144 q1590 3 rfl ds_X5_within ⟨Nat.le_of_ble_eq_true rfl, Nat.le_of_ble_eq_true rfl⟩ hl.1 rfl (Nat.le_of_ble_eq_true rfl) dX5_duel_23 ⟨Nat.le_refl 0, Nat.le_refl 0⟩ (fun H locs hp => ?_)
      refine lv_if_eq (tgt := 40) hx hb dX5_duel_26 (by decide) (fun c7 => ?_) (fun c7 => ?_)
      · have hF := if_p c7 hF
        refine lv_iconst (v := -1) hx hb dX5_duel_40 (by decide) ?_
        cases hF
        exact m_iret X hp dX5_duel_41
      · have hF := if_n c7 hF
        refine lv_iload_n hx hb dX5_duel_29 rfl (lv_at hl 3 rfl) ?_
        refine lv_bipush (v := -20) hx hb dX5_duel_30 (by decide) ?_
        refine lv_bipush (v := 20) hx hb dX5_duel_32 (by decide) ?_
        obtain ⟨v9, e8, hF⟩ := ob_s hF
        refine m_callS (As := [.int x3, .int (-20 : Int32), .int (20 : Int32)]) (rest := []) X hp (w_X5_within e8) q1588 q1589 q144 q1590 3 rfl ds_X5_within ⟨Nat.le_of_ble_eq_true rfl, Nat.le_of_ble_eq_true rfl⟩ hl.1 rfl (Nat.le_of_ble_eq_true rfl) dX5_duel_34 ⟨Nat.le_refl 0, Nat.le_refl 0⟩ (fun H locs hp => ?_)
        refine lv_if_ne (tgt := 42) hx hb dX5_duel_37 (by decide) (fun c10 => ?_) (fun c10 => ?_)
        · have hF := if_n c10 hF
          refine lv_iload_n hx hb dX5_duel_42 rfl (lv_at hl 1 rfl) ?_
          refine lv_bipush (v := 10) hx hb dX5_duel_43 (by decide) ?_
          refine lv_idiv hx hb dX5_duel_45 (by decide) ?_
          refine lv_topi (fun v11 ev12 => ?_)
          have hF := nm_s hF ev12
          refine lv_istore (lv' := [(4, .int v11), (0, .ref x0), (1, .int x1), (2, .int x2), (3, .int x3)]) hx hb dX5_duel_46 hl (by decide) rfl (fun ls hl => ?_)
          refine lv_iload_n hx hb dX5_duel_48 rfl (lv_at hl 2 rfl) ?_
          refine lv_bipush (v := 10) hx hb dX5_duel_49 (by decide) ?_
          refine lv_irem hx hb dX5_duel_51 (by decide) ?_
          refine lv_topi (fun v13 ev14 => ?_)
          have hF := nm_s hF ev14
          refine lv_istore (lv' := [(5, .int v13), (4, .int v11), (0, .ref x0), (1, .int x1), (2, .int x2), (3, .int x3)]) hx hb dX5_duel_52 hl (by decide) rfl (fun ls hl => ?_)
          refine lv_bipush (v := 121) hx hb dX5_duel_54 (by decide) ?_
          refine lv_bipush (v := 60) hx hb dX5_duel_56 (by decide) ?_
          refine lv_iload_n hx hb dX5_duel_58 rfl (lv_at hl 5 rfl) ?_
          refine lv_iadd hx hb dX5_duel_59 ?_
          refine lv_imul hx hb dX5_duel_60 ?_
          refine lv_bipush (v := 60) hx hb dX5_duel_61 (by decide) ?_
          refine lv_iadd hx hb dX5_duel_63 ?_
          refine lv_iload_n hx hb dX5_duel_64 rfl (lv_at hl 4 rfl) ?_
          refine lv_iadd hx hb dX5_duel_65 ?_
          refine lv_topi (fun v15 ev16 => ?_)
          have hF := nm_s hF ev16
          refine lv_istore (lv' := [(6, .int v15), (5, .int v13), (4, .int v11), (0, .ref x0), (1, .int x1), (2, .int x2), (3, .int x3)]) hx hb dX5_duel_66 hl (by decide) rfl (fun ls hl => ?_)
          refine lv_iconst (v := 0) hx hb dX5_duel_68 (by decide) ?_
          refine lv_topi (fun v17 ev18 => ?_)
          have hF := nm_s hF ev18
          refine lv_istore (lv' := [(7, .int v17), (6, .int v15), (5, .int v13), (4, .int v11), (0, .ref x0), (1, .int x1), (2, .int x2), (3, .int x3)]) hx hb dX5_duel_69 hl (by decide) rfl (fun ls hl => ?_)
          exact b_X5_duel_71 X _ _ _ _ _ _ _ _ _ _ hp (lv_sub hl [4, 3, 2, 1, 0] rfl) hF
        · have hF := if_p c10 hF
          refine lv_iconst (v := -1) hx hb dX5_duel_40 (by decide) ?_
          cases hF
          exact m_iret X hp dX5_duel_41
end
section
variable {l : Launch} {D : va_G} {n0 : Nat} {P : mP} {S : mSh} {M : mMm} {n : Nat} {p : Program} {e : Env} {s : State} {m : MethodId} {args : Array Value} {below : List Frame} {meth : Method} {c : Code}
abbrev Rm_X5_end : Room := { frames := 1, cells := 0, slots := 0, locals := 22 }
def f_X5_end (S : mSh) (M : mMm) (x0 : Nat) (x1 : Int32) : Option (Int32 × mMm) := ob (rI S M x0 6 7) fun v1 => ob (f_X5_within x1 (0 : Int32) v1) fun v4 => (if v4 = 0 then some ((0 : Int32), M) else ob (wF S M x0 6 7 (.int x1)) fun M6 => some ((1 : Int32), M6))
theorem w_X5_end {x0 : Nat} {x1 : Int32} {r : Int32} {M' : mMm} (hF : f_X5_end S M x0 x1 = some (r, M')) : mCt l D n0 P yX5_end cX5_end 2 (some .boolean) 1 22 0 0 [.ref x0, .int x1] S M n (some (.int r)) S M' n := by
  refine m_ofW (by decide) (Nat.le_of_ble_eq_true rfl) (fun p e s m below meth c X hnm hp ls hl => ?_)
  have hx := X.1.1
  have hb := X.1.2.1
  have hown := X.1.2.2.2.1
  have hts := X.1.2.2.2.2
  have hl : lv_has ls 2 [(0, .ref x0), (1, .int x1)] := hl
  unfold f_X5_end at hF
  refine lv_iload_n hx hb dX5_end_0 rfl (lv_at hl 1 rfl) ?_
  refine lv_iconst (v := 0) hx hb dX5_end_1 (by decide) ?_
  refine lv_aload_n hx hb dX5_end_2 rfl (lv_at hl 0 rfl) ?_
  obtain ⟨v1, e2, hF⟩ := ob_s hF
  refine m_getI X hp e2 kX5 (Nat.le_of_ble_eq_true rfl) q1466 dX5_end_3 ?_
  obtain ⟨v4, e3, hF⟩ := ob_s hF
  refine m_callS (As := [.int x1, .int (0 : Int32), .int v1]) (rest := []) X hp (w_X5_within e3) q1588 q1589 q144 q1590 3 rfl ds_X5_within ⟨Nat.le_of_ble_eq_true rfl, Nat.le_of_ble_eq_true rfl⟩ hl.1 rfl (Nat.le_of_ble_eq_true rfl) dX5_end_6 ⟨Nat.le_refl 0, Nat.le_refl 0⟩ (fun H locs hp => ?_)
  refine lv_if_ne (tgt := 14) hx hb dX5_end_9 (by decide) (fun c5 => ?_) (fun c5 => ?_)
  · have hF := if_n c5 hF
    refine lv_aload_n hx hb dX5_end_14 rfl (lv_at hl 0 rfl) ?_
    refine lv_iload_n hx hb dX5_end_15 rfl (lv_at hl 1 rfl) ?_
    obtain ⟨M6, e7, hF⟩ := ob_s hF
    refine m_putW X hp e7 kX5 (Nat.le_of_ble_eq_true rfl) q1466 rfl rfl rfl dX5_end_16 (fun H locs hp => ?_)
    refine lv_iconst (v := 1) hx hb dX5_end_19 (by decide) ?_
    cases hF
    exact m_zret X hp rfl dX5_end_20
  · have hF := if_p c5 hF
    refine lv_iconst (v := 0) hx hb dX5_end_12 (by decide) ?_
    cases hF
    exact m_zret X hp rfl dX5_end_13
end
section
variable {l : Launch} {D : va_G} {n0 : Nat} {P : mP} {S : mSh} {M : mMm} {n : Nat} {p : Program} {e : Env} {s : State} {m : MethodId} {args : Array Value} {below : List Frame} {meth : Method} {c : Code}
abbrev Rm_X5_packed : Room := { frames := 0, cells := 0, slots := 0, locals := 0 }
def f_X5_packed (x0 : Int32) (x1 : Int32) : Option Int32 := some ((x0 <<< ((5 : Int32) &&& 31)) ||| (x1 - (96 : Int32)))
theorem w_X5_packed {x0 : Int32} {x1 : Int32} {r : Int32} (hF : f_X5_packed x0 x1 = some r) : mCt l D n0 P yX5_packed cX5_packed 2 (some .int) 0 0 0 0 [.int x0, .int x1] S M n (some (.int r)) S M n := by
  refine m_ofW (by decide) (Nat.le_of_ble_eq_true rfl) (fun p e s m below meth c X hnm hp ls hl => ?_)
  have hx := X.1.1
  have hb := X.1.2.1
  have hown := X.1.2.2.2.1
  have hts := X.1.2.2.2.2
  have hl : lv_has ls 2 [(0, .int x0), (1, .int x1)] := hl
  unfold f_X5_packed at hF
  refine lv_iload_n hx hb dX5_packed_0 rfl (lv_at hl 0 rfl) ?_
  refine lv_iconst (v := 5) hx hb dX5_packed_1 (by decide) ?_
  refine lv_ishl hx hb dX5_packed_2 ?_
  refine lv_iload_n hx hb dX5_packed_3 rfl (lv_at hl 1 rfl) ?_
  refine lv_bipush (v := 96) hx hb dX5_packed_4 (by decide) ?_
  refine lv_isub hx hb dX5_packed_6 ?_
  refine lv_ior hx hb dX5_packed_7 ?_
  cases hF
  exact m_iret X hp dX5_packed_8
end
section
variable {l : Launch} {D : va_G} {n0 : Nat} {P : mP} {S : mSh} {M : mMm} {n : Nat} {p : Program} {e : Env} {s : State} {m : MethodId} {args : Array Value} {below : List Frame} {meth : Method} {c : Code}
abbrev Rm_X5_spelt : Room := { frames := 1, cells := 0, slots := 0, locals := 21 }
def fb_X5_spelt_75 (x5 : Int32) (y0 : Int32) : Option Int32 := (if x5 = 0 then some y0 else ob (f_X5_packed y0 x5) fun v17 => some v17)
theorem b_X5_spelt_75 {r : Int32} (X : mCx D n0 P p m c cX5_spelt 7 s args yX5_spelt.cls meth (some .int)) : ∀ (x5 : Int32) (y0 : Int32) (H : Heap) (locs : List Loc) (ls : Array Slot), mHp D n0 S M n s H locs → lv_has ls 7 [(5, .int x5)] → fb_X5_spelt_75 x5 y0 = some r → W p l e Rm_X5_spelt s m args below meth c H locs 0 0 (MQ below (mQ D n0 (some (.int r)) S M n) args s 0 0 (mA n0)) (F0 m 75 ls [.int y0]) := by
  have hx := X.1.1
  have hb := X.1.2.1
  have hown := X.1.2.2.2.1
  have hts := X.1.2.2.2.2
  intro x5 y0 H locs ls hp hl hF
  unfold fb_X5_spelt_75 at hF
  refine lv_istore (lv' := [(6, .int y0), (5, .int x5)]) hx hb dX5_spelt_75 hl (by decide) rfl (fun ls hl => ?_)
  refine lv_iload hx hb dX5_spelt_77 (lv_at hl 1 rfl) ?_
  refine lv_if_ne (tgt := 87) hx hb dX5_spelt_79 (by decide) (fun c15 => ?_) (fun c15 => ?_)
  · have hF := if_n c15 hF
    refine lv_iload hx hb dX5_spelt_87 (lv_at hl 0 rfl) ?_
    refine lv_iload hx hb dX5_spelt_89 (lv_at hl 1 rfl) ?_
    obtain ⟨v17, e16, hF⟩ := ob_s hF
    refine m_callS (As := [.int y0, .int x5]) (rest := []) X hp (w_X5_packed e16) q1617 q1618 q144 q1619 2 rfl ds_X5_packed ⟨Nat.le_of_ble_eq_true rfl, Nat.le_of_ble_eq_true rfl⟩ hl.1 rfl (Nat.le_of_ble_eq_true rfl) dX5_spelt_91 ⟨Nat.le_refl 0, Nat.le_refl 0⟩ (fun H locs hp => ?_)
    cases hF
    exact m_iret X hp dX5_spelt_94
  · have hF := if_p c15 hF
    refine lv_iload hx hb dX5_spelt_82 (lv_at hl 0 rfl) ?_
    refine lv_goto (tgt := 94) hx hb dX5_spelt_84 (by decide) ?_
    cases hF
    exact m_iret X hp dX5_spelt_94
def fb_X5_spelt_56 (x4 : Int32) (x5 : Int32) (y0 : Int32) : Option Int32 := (if x4 = 0 then (fb_X5_spelt_75 x5 y0) else ob (f_X5_packed y0 x4) fun v14 => (fb_X5_spelt_75 x5 v14))
theorem b_X5_spelt_56 {r : Int32} (X : mCx D n0 P p m c cX5_spelt 7 s args yX5_spelt.cls meth (some .int)) : ∀ (x4 : Int32) (x5 : Int32) (y0 : Int32) (H : Heap) (locs : List Loc) (ls : Array Slot), mHp D n0 S M n s H locs → lv_has ls 7 [(4, .int x4), (5, .int x5)] → fb_X5_spelt_56 x4 x5 y0 = some r → W p l e Rm_X5_spelt s m args below meth c H locs 0 0 (MQ below (mQ D n0 (some (.int r)) S M n) args s 0 0 (mA n0)) (F0 m 56 ls [.int y0]) := by
  have hx := X.1.1
  have hb := X.1.2.1
  have hown := X.1.2.2.2.1
  have hts := X.1.2.2.2.2
  intro x4 x5 y0 H locs ls hp hl hF
  unfold fb_X5_spelt_56 at hF
  refine lv_istore (lv' := [(6, .int y0), (4, .int x4), (5, .int x5)]) hx hb dX5_spelt_56 hl (by decide) rfl (fun ls hl => ?_)
  refine lv_iload hx hb dX5_spelt_58 (lv_at hl 1 rfl) ?_
  refine lv_if_ne (tgt := 68) hx hb dX5_spelt_60 (by decide) (fun c12 => ?_) (fun c12 => ?_)
  · have hF := if_n c12 hF
    refine lv_iload hx hb dX5_spelt_68 (lv_at hl 0 rfl) ?_
    refine lv_iload hx hb dX5_spelt_70 (lv_at hl 1 rfl) ?_
    obtain ⟨v14, e13, hF⟩ := ob_s hF
    refine m_callS (As := [.int y0, .int x4]) (rest := []) X hp (w_X5_packed e13) q1617 q1618 q144 q1619 2 rfl ds_X5_packed ⟨Nat.le_of_ble_eq_true rfl, Nat.le_of_ble_eq_true rfl⟩ hl.1 rfl (Nat.le_of_ble_eq_true rfl) dX5_spelt_72 ⟨Nat.le_refl 0, Nat.le_refl 0⟩ (fun H locs hp => ?_)
    exact b_X5_spelt_75 X _ _ _ _ _ hp (lv_sub hl [2] rfl) hF
  · have hF := if_p c12 hF
    refine lv_iload hx hb dX5_spelt_63 (lv_at hl 0 rfl) ?_
    refine lv_goto (tgt := 75) hx hb dX5_spelt_65 (by decide) ?_
    exact b_X5_spelt_75 X _ _ _ _ _ hp (lv_sub hl [2] rfl) hF
def fb_X5_spelt_39 (x3 : Int32) (x4 : Int32) (x5 : Int32) (y0 : Int32) : Option Int32 := (if x3 = 0 then (fb_X5_spelt_56 x4 x5 y0) else ob (f_X5_packed y0 x3) fun v11 => (fb_X5_spelt_56 x4 x5 v11))
theorem b_X5_spelt_39 {r : Int32} (X : mCx D n0 P p m c cX5_spelt 7 s args yX5_spelt.cls meth (some .int)) : ∀ (x3 : Int32) (x4 : Int32) (x5 : Int32) (y0 : Int32) (H : Heap) (locs : List Loc) (ls : Array Slot), mHp D n0 S M n s H locs → lv_has ls 7 [(3, .int x3), (4, .int x4), (5, .int x5)] → fb_X5_spelt_39 x3 x4 x5 y0 = some r → W p l e Rm_X5_spelt s m args below meth c H locs 0 0 (MQ below (mQ D n0 (some (.int r)) S M n) args s 0 0 (mA n0)) (F0 m 39 ls [.int y0]) := by
  have hx := X.1.1
  have hb := X.1.2.1
  have hown := X.1.2.2.2.1
  have hts := X.1.2.2.2.2
  intro x3 x4 x5 y0 H locs ls hp hl hF
  unfold fb_X5_spelt_39 at hF
  refine lv_istore (lv' := [(6, .int y0), (3, .int x3), (4, .int x4), (5, .int x5)]) hx hb dX5_spelt_39 hl (by decide) rfl (fun ls hl => ?_)
  refine lv_iload_n hx hb dX5_spelt_41 rfl (lv_at hl 1 rfl) ?_
  refine lv_if_ne (tgt := 50) hx hb dX5_spelt_42 (by decide) (fun c9 => ?_) (fun c9 => ?_)
  · have hF := if_n c9 hF
    refine lv_iload hx hb dX5_spelt_50 (lv_at hl 0 rfl) ?_
    refine lv_iload_n hx hb dX5_spelt_52 rfl (lv_at hl 1 rfl) ?_
    obtain ⟨v11, e10, hF⟩ := ob_s hF
    refine m_callS (As := [.int y0, .int x3]) (rest := []) X hp (w_X5_packed e10) q1617 q1618 q144 q1619 2 rfl ds_X5_packed ⟨Nat.le_of_ble_eq_true rfl, Nat.le_of_ble_eq_true rfl⟩ hl.1 rfl (Nat.le_of_ble_eq_true rfl) dX5_spelt_53 ⟨Nat.le_refl 0, Nat.le_refl 0⟩ (fun H locs hp => ?_)
    exact b_X5_spelt_56 X _ _ _ _ _ _ hp (lv_sub hl [2, 3] rfl) hF
  · have hF := if_p c9 hF
    refine lv_iload hx hb dX5_spelt_45 (lv_at hl 0 rfl) ?_
    refine lv_goto (tgt := 56) hx hb dX5_spelt_47 (by decide) ?_
    exact b_X5_spelt_56 X _ _ _ _ _ _ hp (lv_sub hl [2, 3] rfl) hF
def fb_X5_spelt_22 (x2 : Int32) (x3 : Int32) (x4 : Int32) (x5 : Int32) (y0 : Int32) : Option Int32 := (if x2 = 0 then (fb_X5_spelt_39 x3 x4 x5 y0) else ob (f_X5_packed y0 x2) fun v8 => (fb_X5_spelt_39 x3 x4 x5 v8))
theorem b_X5_spelt_22 {r : Int32} (X : mCx D n0 P p m c cX5_spelt 7 s args yX5_spelt.cls meth (some .int)) : ∀ (x2 : Int32) (x3 : Int32) (x4 : Int32) (x5 : Int32) (y0 : Int32) (H : Heap) (locs : List Loc) (ls : Array Slot), mHp D n0 S M n s H locs → lv_has ls 7 [(2, .int x2), (3, .int x3), (4, .int x4), (5, .int x5)] → fb_X5_spelt_22 x2 x3 x4 x5 y0 = some r → W p l e Rm_X5_spelt s m args below meth c H locs 0 0 (MQ below (mQ D n0 (some (.int r)) S M n) args s 0 0 (mA n0)) (F0 m 22 ls [.int y0]) := by
  have hx := X.1.1
  have hb := X.1.2.1
  have hown := X.1.2.2.2.1
  have hts := X.1.2.2.2.2
  intro x2 x3 x4 x5 y0 H locs ls hp hl hF
  unfold fb_X5_spelt_22 at hF
  refine lv_istore (lv' := [(6, .int y0), (2, .int x2), (3, .int x3), (4, .int x4), (5, .int x5)]) hx hb dX5_spelt_22 hl (by decide) rfl (fun ls hl => ?_)
  refine lv_iload_n hx hb dX5_spelt_24 rfl (lv_at hl 1 rfl) ?_
  refine lv_if_ne (tgt := 33) hx hb dX5_spelt_25 (by decide) (fun c6 => ?_) (fun c6 => ?_)
  · have hF := if_n c6 hF
    refine lv_iload hx hb dX5_spelt_33 (lv_at hl 0 rfl) ?_
    refine lv_iload_n hx hb dX5_spelt_35 rfl (lv_at hl 1 rfl) ?_
    obtain ⟨v8, e7, hF⟩ := ob_s hF
    refine m_callS (As := [.int y0, .int x2]) (rest := []) X hp (w_X5_packed e7) q1617 q1618 q144 q1619 2 rfl ds_X5_packed ⟨Nat.le_of_ble_eq_true rfl, Nat.le_of_ble_eq_true rfl⟩ hl.1 rfl (Nat.le_of_ble_eq_true rfl) dX5_spelt_36 ⟨Nat.le_refl 0, Nat.le_refl 0⟩ (fun H locs hp => ?_)
    exact b_X5_spelt_39 X _ _ _ _ _ _ _ hp (lv_sub hl [2, 3, 4] rfl) hF
  · have hF := if_p c6 hF
    refine lv_iload hx hb dX5_spelt_28 (lv_at hl 0 rfl) ?_
    refine lv_goto (tgt := 39) hx hb dX5_spelt_30 (by decide) ?_
    exact b_X5_spelt_39 X _ _ _ _ _ _ _ hp (lv_sub hl [2, 3, 4] rfl) hF
def f_X5_spelt (x0 : Int32) (x1 : Int32) (x2 : Int32) (x3 : Int32) (x4 : Int32) (x5 : Int32) : Option Int32 := ob (f_X5_packed (0 : Int32) x0) fun v2 => (if x1 = 0 then (fb_X5_spelt_22 x2 x3 x4 x5 v2) else ob (f_X5_packed v2 x1) fun v5 => (fb_X5_spelt_22 x2 x3 x4 x5 v5))
theorem w_X5_spelt {x0 : Int32} {x1 : Int32} {x2 : Int32} {x3 : Int32} {x4 : Int32} {x5 : Int32} {r : Int32} (hF : f_X5_spelt x0 x1 x2 x3 x4 x5 = some r) : mCt l D n0 P yX5_spelt cX5_spelt 7 (some .int) 1 21 0 0 [.int x0, .int x1, .int x2, .int x3, .int x4, .int x5] S M n (some (.int r)) S M n := by
  refine m_ofW (by decide) (Nat.le_of_ble_eq_true rfl) (fun p e s m below meth c X hnm hp ls hl => ?_)
  have hx := X.1.1
  have hb := X.1.2.1
  have hown := X.1.2.2.2.1
  have hts := X.1.2.2.2.2
  have hl : lv_has ls 7 [(0, .int x0), (1, .int x1), (2, .int x2), (3, .int x3), (4, .int x4), (5, .int x5)] := hl
  unfold f_X5_spelt at hF
  refine lv_iconst (v := 0) hx hb dX5_spelt_0 (by decide) ?_
  refine lv_iload_n hx hb dX5_spelt_1 rfl (lv_at hl 0 rfl) ?_
  obtain ⟨v2, e1, hF⟩ := ob_s hF
  refine m_callS (As := [.int (0 : Int32), .int x0]) (rest := []) X hp (w_X5_packed e1) q1617 q1618 q144 q1619 2 rfl ds_X5_packed ⟨Nat.le_of_ble_eq_true rfl, Nat.le_of_ble_eq_true rfl⟩ hl.1 rfl (Nat.le_of_ble_eq_true rfl) dX5_spelt_2 ⟨Nat.le_refl 0, Nat.le_refl 0⟩ (fun H locs hp => ?_)
  refine lv_istore (lv' := [(6, .int v2), (0, .int x0), (1, .int x1), (2, .int x2), (3, .int x3), (4, .int x4), (5, .int x5)]) hx hb dX5_spelt_5 hl (by decide) rfl (fun ls hl => ?_)
  refine lv_iload_n hx hb dX5_spelt_7 rfl (lv_at hl 2 rfl) ?_
  refine lv_if_ne (tgt := 16) hx hb dX5_spelt_8 (by decide) (fun c3 => ?_) (fun c3 => ?_)
  · have hF := if_n c3 hF
    refine lv_iload hx hb dX5_spelt_16 (lv_at hl 0 rfl) ?_
    refine lv_iload_n hx hb dX5_spelt_18 rfl (lv_at hl 2 rfl) ?_
    obtain ⟨v5, e4, hF⟩ := ob_s hF
    refine m_callS (As := [.int v2, .int x1]) (rest := []) X hp (w_X5_packed e4) q1617 q1618 q144 q1619 2 rfl ds_X5_packed ⟨Nat.le_of_ble_eq_true rfl, Nat.le_of_ble_eq_true rfl⟩ hl.1 rfl (Nat.le_of_ble_eq_true rfl) dX5_spelt_19 ⟨Nat.le_refl 0, Nat.le_refl 0⟩ (fun H locs hp => ?_)
    exact b_X5_spelt_22 X _ _ _ _ _ _ _ _ hp (lv_sub hl [3, 4, 5, 6] rfl) hF
  · have hF := if_p c3 hF
    refine lv_iload hx hb dX5_spelt_11 (lv_at hl 0 rfl) ?_
    refine lv_goto (tgt := 22) hx hb dX5_spelt_13 (by decide) ?_
    exact b_X5_spelt_22 X _ _ _ _ _ _ _ _ hp (lv_sub hl [3, 4, 5, 6] rfl) hF
end
section
variable {l : Launch} {D : va_G} {n0 : Nat} {P : mP} {S : mSh} {M : mMm} {n : Nat} {p : Program} {e : Env} {s : State} {m : MethodId} {args : Array Value} {below : List Frame} {meth : Method} {c : Code}
abbrev Rm_X5_factOf : Room := { frames := 2, cells := 0, slots := 0, locals := 47 }
def f_X5_factOf (x0 : Int32) : Option Int32 := ob (f_X5_spelt (104 : Int32) (97 : Int32) (115 : Int32) (116 : Int32) (101 : Int32) (0 : Int32)) fun v2 => (if x0 = v2 then some (0 : Int32) else ob (f_X5_spelt (116 : Int32) (117 : Int32) (114 : Int32) (110 : Int32) (115 : Int32) (0 : Int32)) fun v5 => (if x0 = v5 then some (1 : Int32) else ob (f_X5_spelt (115 : Int32) (105 : Int32) (103 : Int32) (110 : Int32) (115 : Int32) (0 : Int32)) fun v8 => (if x0 = v8 then some (2 : Int32) else ob (f_X5_spelt (120 : Int32) (0 : Int32) (0 : Int32) (0 : Int32) (0 : Int32) (0 : Int32)) fun v11 => (if x0 = v11 then some (3 : Int32) else ob (f_X5_spelt (121 : Int32) (0 : Int32) (0 : Int32) (0 : Int32) (0 : Int32) (0 : Int32)) fun v14 => (if x0 = v14 then some (4 : Int32) else ob (f_X5_spelt (102 : Int32) (97 : Int32) (99 : Int32) (105 : Int32) (110 : Int32) (103 : Int32)) fun v17 => (if x0 = v17 then some (5 : Int32) else ob (f_X5_spelt (115 : Int32) (110 : Int32) (111 : Int32) (119 : Int32) (0 : Int32) (0 : Int32)) fun v20 => (if x0 = v20 then some (6 : Int32) else ob (f_X5_spelt (105 : Int32) (110 : Int32) (115 : Int32) (105 : Int32) (100 : Int32) (101 : Int32)) fun v23 => (if x0 = v23 then some (7 : Int32) else ob (f_X5_spelt (119 : Int32) (97 : Int32) (116 : Int32) (99 : Int32) (104 : Int32) (0 : Int32)) fun v26 => (if x0 = v26 then some (8 : Int32) else ob (f_X5_spelt (109 : Int32) (105 : Int32) (110 : Int32) (117 : Int32) (116 : Int32) (101 : Int32)) fun v29 => (if x0 = v29 then some (9 : Int32) else some (-1 : Int32)))))))))))
theorem w_X5_factOf {x0 : Int32} {r : Int32} (hF : f_X5_factOf x0 = some r) : mCt l D n0 P yX5_factOf cX5_factOf 1 (some .int) 2 47 0 0 [.int x0] S M n (some (.int r)) S M n := by
  refine m_ofW (by decide) (Nat.le_of_ble_eq_true rfl) (fun p e s m below meth c X hnm hp ls hl => ?_)
  have hx := X.1.1
  have hb := X.1.2.1
  have hown := X.1.2.2.2.1
  have hts := X.1.2.2.2.2
  have hl : lv_has ls 1 [(0, .int x0)] := hl
  unfold f_X5_factOf at hF
  refine lv_iload_n hx hb dX5_factOf_0 rfl (lv_at hl 0 rfl) ?_
  refine lv_bipush (v := 104) hx hb dX5_factOf_1 (by decide) ?_
  refine lv_bipush (v := 97) hx hb dX5_factOf_3 (by decide) ?_
  refine lv_bipush (v := 115) hx hb dX5_factOf_5 (by decide) ?_
  refine lv_bipush (v := 116) hx hb dX5_factOf_7 (by decide) ?_
  refine lv_bipush (v := 101) hx hb dX5_factOf_9 (by decide) ?_
  refine lv_iconst (v := 0) hx hb dX5_factOf_11 (by decide) ?_
  obtain ⟨v2, e1, hF⟩ := ob_s hF
  refine m_callS (As := [.int (104 : Int32), .int (97 : Int32), .int (115 : Int32), .int (116 : Int32), .int (101 : Int32), .int (0 : Int32)]) (rest := [.int x0]) X hp (w_X5_spelt e1) q1620 q1621 q144 q1622 6 rfl ds_X5_spelt ⟨Nat.le_of_ble_eq_true rfl, Nat.le_of_ble_eq_true rfl⟩ hl.1 rfl (Nat.le_of_ble_eq_true rfl) dX5_factOf_12 ⟨Nat.le_refl 0, Nat.le_refl 0⟩ (fun H locs hp => ?_)
  refine lv_icmp_ne (tgt := 22) hx hb dX5_factOf_15 (by decide) (fun c3 => ?_) (fun c3 => ?_)
  · have hF := if_n c3 hF
    refine lv_iload_n hx hb dX5_factOf_22 rfl (lv_at hl 0 rfl) ?_
    refine lv_bipush (v := 116) hx hb dX5_factOf_23 (by decide) ?_
    refine lv_bipush (v := 117) hx hb dX5_factOf_25 (by decide) ?_
    refine lv_bipush (v := 114) hx hb dX5_factOf_27 (by decide) ?_
    refine lv_bipush (v := 110) hx hb dX5_factOf_29 (by decide) ?_
    refine lv_bipush (v := 115) hx hb dX5_factOf_31 (by decide) ?_
    refine lv_iconst (v := 0) hx hb dX5_factOf_33 (by decide) ?_
    obtain ⟨v5, e4, hF⟩ := ob_s hF
    refine m_callS (As := [.int (116 : Int32), .int (117 : Int32), .int (114 : Int32), .int (110 : Int32), .int (115 : Int32), .int (0 : Int32)]) (rest := [.int x0]) X hp (w_X5_spelt e4) q1620 q1621 q144 q1622 6 rfl ds_X5_spelt ⟨Nat.le_of_ble_eq_true rfl, Nat.le_of_ble_eq_true rfl⟩ hl.1 rfl (Nat.le_of_ble_eq_true rfl) dX5_factOf_34 ⟨Nat.le_refl 0, Nat.le_refl 0⟩ (fun H locs hp => ?_)
    refine lv_icmp_ne (tgt := 44) hx hb dX5_factOf_37 (by decide) (fun c6 => ?_) (fun c6 => ?_)
    · have hF := if_n c6 hF
      refine lv_iload_n hx hb dX5_factOf_44 rfl (lv_at hl 0 rfl) ?_
      refine lv_bipush (v := 115) hx hb dX5_factOf_45 (by decide) ?_
      refine lv_bipush (v := 105) hx hb dX5_factOf_47 (by decide) ?_
      refine lv_bipush (v := 103) hx hb dX5_factOf_49 (by decide) ?_
      refine lv_bipush (v := 110) hx hb dX5_factOf_51 (by decide) ?_
      refine lv_bipush (v := 115) hx hb dX5_factOf_53 (by decide) ?_
      refine lv_iconst (v := 0) hx hb dX5_factOf_55 (by decide) ?_
      obtain ⟨v8, e7, hF⟩ := ob_s hF
      refine m_callS (As := [.int (115 : Int32), .int (105 : Int32), .int (103 : Int32), .int (110 : Int32), .int (115 : Int32), .int (0 : Int32)]) (rest := [.int x0]) X hp (w_X5_spelt e7) q1620 q1621 q144 q1622 6 rfl ds_X5_spelt ⟨Nat.le_of_ble_eq_true rfl, Nat.le_of_ble_eq_true rfl⟩ hl.1 rfl (Nat.le_of_ble_eq_true rfl) dX5_factOf_56 ⟨Nat.le_refl 0, Nat.le_refl 0⟩ (fun H locs hp => ?_)
      refine lv_icmp_ne (tgt := 66) hx hb dX5_factOf_59 (by decide) (fun c9 => ?_) (fun c9 => ?_)
      · have hF := if_n c9 hF
        refine lv_iload_n hx hb dX5_factOf_66 rfl (lv_at hl 0 rfl) ?_
        refine lv_bipush (v := 120) hx hb dX5_factOf_67 (by decide) ?_
        refine lv_iconst (v := 0) hx hb dX5_factOf_69 (by decide) ?_
        refine lv_iconst (v := 0) hx hb dX5_factOf_70 (by decide) ?_
        refine lv_iconst (v := 0) hx hb dX5_factOf_71 (by decide) ?_
        refine lv_iconst (v := 0) hx hb dX5_factOf_72 (by decide) ?_
        refine lv_iconst (v := 0) hx hb dX5_factOf_73 (by decide) ?_
        obtain ⟨v11, e10, hF⟩ := ob_s hF
        refine m_callS (As := [.int (120 : Int32), .int (0 : Int32), .int (0 : Int32), .int (0 : Int32), .int (0 : Int32), .int (0 : Int32)]) (rest := [.int x0]) X hp (w_X5_spelt e10) q1620 q1621 q144 q1622 6 rfl ds_X5_spelt ⟨Nat.le_of_ble_eq_true rfl, Nat.le_of_ble_eq_true rfl⟩ hl.1 rfl (Nat.le_of_ble_eq_true rfl) dX5_factOf_74 ⟨Nat.le_refl 0, Nat.le_refl 0⟩ (fun H locs hp => ?_)
        refine lv_icmp_ne (tgt := 84) hx hb dX5_factOf_77 (by decide) (fun c12 => ?_) (fun c12 => ?_)
        · have hF := if_n c12 hF
          refine lv_iload_n hx hb dX5_factOf_84 rfl (lv_at hl 0 rfl) ?_
          refine lv_bipush (v := 121) hx hb dX5_factOf_85 (by decide) ?_
          refine lv_iconst (v := 0) hx hb dX5_factOf_87 (by decide) ?_
          refine lv_iconst (v := 0) hx hb dX5_factOf_88 (by decide) ?_
          refine lv_iconst (v := 0) hx hb dX5_factOf_89 (by decide) ?_
          refine lv_iconst (v := 0) hx hb dX5_factOf_90 (by decide) ?_
          refine lv_iconst (v := 0) hx hb dX5_factOf_91 (by decide) ?_
          obtain ⟨v14, e13, hF⟩ := ob_s hF
          refine m_callS (As := [.int (121 : Int32), .int (0 : Int32), .int (0 : Int32), .int (0 : Int32), .int (0 : Int32), .int (0 : Int32)]) (rest := [.int x0]) X hp (w_X5_spelt e13) q1620 q1621 q144 q1622 6 rfl ds_X5_spelt ⟨Nat.le_of_ble_eq_true rfl, Nat.le_of_ble_eq_true rfl⟩ hl.1 rfl (Nat.le_of_ble_eq_true rfl) dX5_factOf_92 ⟨Nat.le_refl 0, Nat.le_refl 0⟩ (fun H locs hp => ?_)
          refine lv_icmp_ne (tgt := 102) hx hb dX5_factOf_95 (by decide) (fun c15 => ?_) (fun c15 => ?_)
          · have hF := if_n c15 hF
            refine lv_iload_n hx hb dX5_factOf_102 rfl (lv_at hl 0 rfl) ?_
            refine lv_bipush (v := 102) hx hb dX5_factOf_103 (by decide) ?_
            refine lv_bipush (v := 97) hx hb dX5_factOf_105 (by decide) ?_
            refine lv_bipush (v := 99) hx hb dX5_factOf_107 (by decide) ?_
            refine lv_bipush (v := 105) hx hb dX5_factOf_109 (by decide) ?_
            refine lv_bipush (v := 110) hx hb dX5_factOf_111 (by decide) ?_
            refine lv_bipush (v := 103) hx hb dX5_factOf_113 (by decide) ?_
            obtain ⟨v17, e16, hF⟩ := ob_s hF
            refine m_callS (As := [.int (102 : Int32), .int (97 : Int32), .int (99 : Int32), .int (105 : Int32), .int (110 : Int32), .int (103 : Int32)]) (rest := [.int x0]) X hp (w_X5_spelt e16) q1620 q1621 q144 q1622 6 rfl ds_X5_spelt ⟨Nat.le_of_ble_eq_true rfl, Nat.le_of_ble_eq_true rfl⟩ hl.1 rfl (Nat.le_of_ble_eq_true rfl) dX5_factOf_115 ⟨Nat.le_refl 0, Nat.le_refl 0⟩ (fun H locs hp => ?_)
            refine lv_icmp_ne (tgt := 125) hx hb dX5_factOf_118 (by decide) (fun c18 => ?_) (fun c18 => ?_)
            · have hF := if_n c18 hF
              refine lv_iload_n hx hb dX5_factOf_125 rfl (lv_at hl 0 rfl) ?_
              refine lv_bipush (v := 115) hx hb dX5_factOf_126 (by decide) ?_
              refine lv_bipush (v := 110) hx hb dX5_factOf_128 (by decide) ?_
              refine lv_bipush (v := 111) hx hb dX5_factOf_130 (by decide) ?_
              refine lv_bipush (v := 119) hx hb dX5_factOf_132 (by decide) ?_
              refine lv_iconst (v := 0) hx hb dX5_factOf_134 (by decide) ?_
              refine lv_iconst (v := 0) hx hb dX5_factOf_135 (by decide) ?_
              obtain ⟨v20, e19, hF⟩ := ob_s hF
              refine m_callS (As := [.int (115 : Int32), .int (110 : Int32), .int (111 : Int32), .int (119 : Int32), .int (0 : Int32), .int (0 : Int32)]) (rest := [.int x0]) X hp (w_X5_spelt e19) q1620 q1621 q144 q1622 6 rfl ds_X5_spelt ⟨Nat.le_of_ble_eq_true rfl, Nat.le_of_ble_eq_true rfl⟩ hl.1 rfl (Nat.le_of_ble_eq_true rfl) dX5_factOf_136 ⟨Nat.le_refl 0, Nat.le_refl 0⟩ (fun H locs hp => ?_)
              refine lv_icmp_ne (tgt := 147) hx hb dX5_factOf_139 (by decide) (fun c21 => ?_) (fun c21 => ?_)
              · have hF := if_n c21 hF
                refine lv_iload_n hx hb dX5_factOf_147 rfl (lv_at hl 0 rfl) ?_
                refine lv_bipush (v := 105) hx hb dX5_factOf_148 (by decide) ?_
                refine lv_bipush (v := 110) hx hb dX5_factOf_150 (by decide) ?_
                refine lv_bipush (v := 115) hx hb dX5_factOf_152 (by decide) ?_
                refine lv_bipush (v := 105) hx hb dX5_factOf_154 (by decide) ?_
                refine lv_bipush (v := 100) hx hb dX5_factOf_156 (by decide) ?_
                refine lv_bipush (v := 101) hx hb dX5_factOf_158 (by decide) ?_
                obtain ⟨v23, e22, hF⟩ := ob_s hF
                refine m_callS (As := [.int (105 : Int32), .int (110 : Int32), .int (115 : Int32), .int (105 : Int32), .int (100 : Int32), .int (101 : Int32)]) (rest := [.int x0]) X hp (w_X5_spelt e22) q1620 q1621 q144 q1622 6 rfl ds_X5_spelt ⟨Nat.le_of_ble_eq_true rfl, Nat.le_of_ble_eq_true rfl⟩ hl.1 rfl (Nat.le_of_ble_eq_true rfl) dX5_factOf_160 ⟨Nat.le_refl 0, Nat.le_refl 0⟩ (fun H locs hp => ?_)
                refine lv_icmp_ne (tgt := 171) hx hb dX5_factOf_163 (by decide) (fun c24 => ?_) (fun c24 => ?_)
                · have hF := if_n c24 hF
                  refine lv_iload_n hx hb dX5_factOf_171 rfl (lv_at hl 0 rfl) ?_
                  refine lv_bipush (v := 119) hx hb dX5_factOf_172 (by decide) ?_
                  refine lv_bipush (v := 97) hx hb dX5_factOf_174 (by decide) ?_
                  refine lv_bipush (v := 116) hx hb dX5_factOf_176 (by decide) ?_
                  refine lv_bipush (v := 99) hx hb dX5_factOf_178 (by decide) ?_
                  refine lv_bipush (v := 104) hx hb dX5_factOf_180 (by decide) ?_
                  refine lv_iconst (v := 0) hx hb dX5_factOf_182 (by decide) ?_
                  obtain ⟨v26, e25, hF⟩ := ob_s hF
                  refine m_callS (As := [.int (119 : Int32), .int (97 : Int32), .int (116 : Int32), .int (99 : Int32), .int (104 : Int32), .int (0 : Int32)]) (rest := [.int x0]) X hp (w_X5_spelt e25) q1620 q1621 q144 q1622 6 rfl ds_X5_spelt ⟨Nat.le_of_ble_eq_true rfl, Nat.le_of_ble_eq_true rfl⟩ hl.1 rfl (Nat.le_of_ble_eq_true rfl) dX5_factOf_183 ⟨Nat.le_refl 0, Nat.le_refl 0⟩ (fun H locs hp => ?_)
                  refine lv_icmp_ne (tgt := 194) hx hb dX5_factOf_186 (by decide) (fun c27 => ?_) (fun c27 => ?_)
                  · have hF := if_n c27 hF
                    refine lv_iload_n hx hb dX5_factOf_194 rfl (lv_at hl 0 rfl) ?_
                    refine lv_bipush (v := 109) hx hb dX5_factOf_195 (by decide) ?_
                    refine lv_bipush (v := 105) hx hb dX5_factOf_197 (by decide) ?_
                    refine lv_bipush (v := 110) hx hb dX5_factOf_199 (by decide) ?_
                    refine lv_bipush (v := 117) hx hb dX5_factOf_201 (by decide) ?_
                    refine lv_bipush (v := 116) hx hb dX5_factOf_203 (by decide) ?_
                    refine lv_bipush (v := 101) hx hb dX5_factOf_205 (by decide) ?_
                    obtain ⟨v29, e28, hF⟩ := ob_s hF
                    refine m_callS (As := [.int (109 : Int32), .int (105 : Int32), .int (110 : Int32), .int (117 : Int32), .int (116 : Int32), .int (101 : Int32)]) (rest := [.int x0]) X hp (w_X5_spelt e28) q1620 q1621 q144 q1622 6 rfl ds_X5_spelt ⟨Nat.le_of_ble_eq_true rfl, Nat.le_of_ble_eq_true rfl⟩ hl.1 rfl (Nat.le_of_ble_eq_true rfl) dX5_factOf_207 ⟨Nat.le_refl 0, Nat.le_refl 0⟩ (fun H locs hp => ?_)
                    refine lv_icmp_ne (tgt := 218) hx hb dX5_factOf_210 (by decide) (fun c30 => ?_) (fun c30 => ?_)
                    · have hF := if_n c30 hF
                      refine lv_iconst (v := -1) hx hb dX5_factOf_218 (by decide) ?_
                      cases hF
                      exact m_iret X hp dX5_factOf_219
                    · have hF := if_p c30 hF
                      refine lv_bipush (v := 9) hx hb dX5_factOf_213 (by decide) ?_
                      refine lv_goto (tgt := 219) hx hb dX5_factOf_215 (by decide) ?_
                      cases hF
                      exact m_iret X hp dX5_factOf_219
                  · have hF := if_p c27 hF
                    refine lv_bipush (v := 8) hx hb dX5_factOf_189 (by decide) ?_
                    refine lv_goto (tgt := 219) hx hb dX5_factOf_191 (by decide) ?_
                    cases hF
                    exact m_iret X hp dX5_factOf_219
                · have hF := if_p c24 hF
                  refine lv_bipush (v := 7) hx hb dX5_factOf_166 (by decide) ?_
                  refine lv_goto (tgt := 219) hx hb dX5_factOf_168 (by decide) ?_
                  cases hF
                  exact m_iret X hp dX5_factOf_219
              · have hF := if_p c21 hF
                refine lv_bipush (v := 6) hx hb dX5_factOf_142 (by decide) ?_
                refine lv_goto (tgt := 219) hx hb dX5_factOf_144 (by decide) ?_
                cases hF
                exact m_iret X hp dX5_factOf_219
            · have hF := if_p c18 hF
              refine lv_iconst (v := 5) hx hb dX5_factOf_121 (by decide) ?_
              refine lv_goto (tgt := 219) hx hb dX5_factOf_122 (by decide) ?_
              cases hF
              exact m_iret X hp dX5_factOf_219
          · have hF := if_p c15 hF
            refine lv_iconst (v := 4) hx hb dX5_factOf_98 (by decide) ?_
            refine lv_goto (tgt := 219) hx hb dX5_factOf_99 (by decide) ?_
            cases hF
            exact m_iret X hp dX5_factOf_219
        · have hF := if_p c12 hF
          refine lv_iconst (v := 3) hx hb dX5_factOf_80 (by decide) ?_
          refine lv_goto (tgt := 219) hx hb dX5_factOf_81 (by decide) ?_
          cases hF
          exact m_iret X hp dX5_factOf_219
      · have hF := if_p c9 hF
        refine lv_iconst (v := 2) hx hb dX5_factOf_62 (by decide) ?_
        refine lv_goto (tgt := 219) hx hb dX5_factOf_63 (by decide) ?_
        cases hF
        exact m_iret X hp dX5_factOf_219
    · have hF := if_p c6 hF
      refine lv_iconst (v := 1) hx hb dX5_factOf_40 (by decide) ?_
      refine lv_goto (tgt := 219) hx hb dX5_factOf_41 (by decide) ?_
      cases hF
      exact m_iret X hp dX5_factOf_219
  · have hF := if_p c3 hF
    refine lv_iconst (v := 0) hx hb dX5_factOf_18 (by decide) ?_
    refine lv_goto (tgt := 219) hx hb dX5_factOf_19 (by decide) ?_
    cases hF
    exact m_iret X hp dX5_factOf_219
end
section
variable {l : Launch} {D : va_G} {n0 : Nat} {P : mP} {S : mSh} {M : mMm} {n : Nat} {p : Program} {e : Env} {s : State} {m : MethodId} {args : Array Value} {below : List Frame} {meth : Method} {c : Code}
abbrev Rm_X5_isGround : Room := { frames := 1, cells := 0, slots := 0, locals := 22 }
def f_X5_isGround (S : mSh) (M : mMm) (x0 : Nat) (x1 : Int32) : Option Int32 := ob (f_X5_within x1 (0 : Int32) (143 : Int32)) fun v2 => (if v2 = 0 then some (0 : Int32) else ob (rR S M x0 6 0) fun v4 => ob (aI S M v4 100 x1) fun v6 => (if v6 = (1 : Int32) then some (0 : Int32) else some (1 : Int32)))
theorem w_X5_isGround {x0 : Nat} {x1 : Int32} {r : Int32} (hF : f_X5_isGround S M x0 x1 = some r) : mCt l D n0 P yX5_isGround cX5_isGround 2 (some .boolean) 1 22 0 0 [.ref x0, .int x1] S M n (some (.int r)) S M n := by
  refine m_ofW (by decide) (Nat.le_of_ble_eq_true rfl) (fun p e s m below meth c X hnm hp ls hl => ?_)
  have hx := X.1.1
  have hb := X.1.2.1
  have hown := X.1.2.2.2.1
  have hts := X.1.2.2.2.2
  have hl : lv_has ls 2 [(0, .ref x0), (1, .int x1)] := hl
  unfold f_X5_isGround at hF
  refine lv_iload_n hx hb dX5_isGround_0 rfl (lv_at hl 1 rfl) ?_
  refine lv_iconst (v := 0) hx hb dX5_isGround_1 (by decide) ?_
  refine lv_sipush (v := 143) hx hb dX5_isGround_2 (by decide) ?_
  obtain ⟨v2, e1, hF⟩ := ob_s hF
  refine m_callS (As := [.int x1, .int (0 : Int32), .int (143 : Int32)]) (rest := []) X hp (w_X5_within e1) q1588 q1589 q144 q1590 3 rfl ds_X5_within ⟨Nat.le_of_ble_eq_true rfl, Nat.le_of_ble_eq_true rfl⟩ hl.1 rfl (Nat.le_of_ble_eq_true rfl) dX5_isGround_5 ⟨Nat.le_refl 0, Nat.le_refl 0⟩ (fun H locs hp => ?_)
  refine lv_if_eq (tgt := 25) hx hb dX5_isGround_8 (by decide) (fun c3 => ?_) (fun c3 => ?_)
  · have hF := if_p c3 hF
    refine lv_iconst (v := 0) hx hb dX5_isGround_25 (by decide) ?_
    cases hF
    exact m_zret X hp rfl dX5_isGround_26
  · have hF := if_n c3 hF
    refine lv_aload_n hx hb dX5_isGround_11 rfl (lv_at hl 0 rfl) ?_
    obtain ⟨v4, e5, hF⟩ := ob_s hF
    refine m_getR X hp e5 kX5 (Nat.le_of_ble_eq_true rfl) q1459 dX5_isGround_12 ?_
    refine lv_iload_n hx hb dX5_isGround_15 rfl (lv_at hl 1 rfl) ?_
    obtain ⟨v6, e7, hF⟩ := ob_s hF
    refine m_iaI X hp e7 dX5_isGround_16 ?_
    refine lv_iconst (v := 1) hx hb dX5_isGround_17 (by decide) ?_
    refine lv_icmp_eq (tgt := 25) hx hb dX5_isGround_18 (by decide) (fun c8 => ?_) (fun c8 => ?_)
    · have hF := if_p c8 hF
      refine lv_iconst (v := 0) hx hb dX5_isGround_25 (by decide) ?_
      cases hF
      exact m_zret X hp rfl dX5_isGround_26
    · have hF := if_n c8 hF
      refine lv_iconst (v := 1) hx hb dX5_isGround_21 (by decide) ?_
      refine lv_goto (tgt := 26) hx hb dX5_isGround_22 (by decide) ?_
      cases hF
      exact m_zret X hp rfl dX5_isGround_26
end
section
variable {l : Launch} {D : va_G} {n0 : Nat} {P : mP} {S : mSh} {M : mMm} {n : Nat} {p : Program} {e : Env} {s : State} {m : MethodId} {args : Array Value} {below : List Frame} {meth : Method} {c : Code}
abbrev Rm_X5_layFar : Room := { frames := 3, cells := 0, slots := 0, locals := 68 }
def fb_X5_layFar_30 (S : mSh) (k2 : mMm → Nat → Int32 → Int32 → Int32 → Option mMm) (M : mMm) (x0 : Nat) (x1 : Int32) (x2 : Int32) (x3 : Int32) (y0 : Int32) (y1 : Int32) (y2 : Nat) : Option mMm := ob (wA S M y2 100 y1 (.int y0)) fun M11 => nm (x3 + (1 : Int32)) fun v13 => (k2 M11 x0 x1 x2 v13)
theorem b_X5_layFar_30 {M' : mMm} (X : mCx D n0 P p m c cX5_layFar 9 s args yX5_layFar.cls meth none) (k2 : mMm → Nat → Int32 → Int32 → Int32 → Option mMm) (hk2 : ∀ (M : mMm) (x0 : Nat) (x1 : Int32) (x2 : Int32) (x3 : Int32) (H : Heap) (locs : List Loc) (ls : Array Slot), mHp D n0 S M n s H locs → lv_has ls 9 [(0, .ref x0), (1, .int x1), (2, .int x2), (3, .int x3)] → k2 M x0 x1 x2 x3 = some M' → W p l e Rm_X5_layFar s m args below meth c H locs 0 0 (MQ below (mQ D n0 none S M' n) args s 0 0 (mA n0)) (F0 m 2 ls [])) : ∀ (M : mMm) (x0 : Nat) (x1 : Int32) (x2 : Int32) (x3 : Int32) (y0 : Int32) (y1 : Int32) (y2 : Nat) (H : Heap) (locs : List Loc) (ls : Array Slot), mHp D n0 S M n s H locs → lv_has ls 9 [(0, .ref x0), (1, .int x1), (2, .int x2), (3, .int x3)] → fb_X5_layFar_30 S k2 M x0 x1 x2 x3 y0 y1 y2 = some M' → W p l e Rm_X5_layFar s m args below meth c H locs 0 0 (MQ below (mQ D n0 none S M' n) args s 0 0 (mA n0)) (F0 m 30 ls [.int y0, .int y1, .ref y2]) := by
  have hx := X.1.1
  have hb := X.1.2.1
  have hown := X.1.2.2.2.1
  have hts := X.1.2.2.2.2
  intro M x0 x1 x2 x3 y0 y1 y2 H locs ls hp hl hF
  unfold fb_X5_layFar_30 at hF
  obtain ⟨M11, e12, hF⟩ := ob_s hF
  refine m_iaW X hp e12 dX5_layFar_30 (fun H locs hp => ?_)
  obtain ⟨v13, ev14⟩ : ∃ y : Int32, y = x3 + (1 : Int32) := ⟨_, rfl⟩
  have hF := nm_s hF ev14
  refine lv_iinc (v := v13) (lv' := [(3, .int v13), (0, .ref x0), (1, .int x1), (2, .int x2)]) hx hb dX5_layFar_31 hl (k := 3) rfl (by rw [ev14]; rfl) (by decide) rfl (fun ls hl => ?_)
  refine lv_goto (tgt := 2) hx hb dX5_layFar_34 (by decide) ?_
  exact hk2 _ _ _ _ _ _ _ _ hp (lv_sub hl [1, 2, 3, 0] rfl) hF
def fb_X5_layFar_195 (S : mSh) (k138 : mMm → Nat → Int32 → Int32 → Int32 → Int32 → Option mMm) (M : mMm) (x0 : Nat) (x3 : Int32) (x4 : Int32) (x5 : Int32) (x7 : Int32) (y0 : Int32) (y1 : Int32) (y2 : Nat) : Option mMm := ob (wA S M y2 100 y1 (.int y0)) fun M62 => nm (x7 + (1 : Int32)) fun v64 => (k138 M62 x0 x3 x4 x5 v64)
theorem b_X5_layFar_195 {M' : mMm} (X : mCx D n0 P p m c cX5_layFar 9 s args yX5_layFar.cls meth none) (k138 : mMm → Nat → Int32 → Int32 → Int32 → Int32 → Option mMm) (hk138 : ∀ (M : mMm) (x0 : Nat) (x3 : Int32) (x4 : Int32) (x5 : Int32) (x7 : Int32) (H : Heap) (locs : List Loc) (ls : Array Slot), mHp D n0 S M n s H locs → lv_has ls 9 [(0, .ref x0), (3, .int x3), (4, .int x4), (5, .int x5), (7, .int x7)] → k138 M x0 x3 x4 x5 x7 = some M' → W p l e Rm_X5_layFar s m args below meth c H locs 0 0 (MQ below (mQ D n0 none S M' n) args s 0 0 (mA n0)) (F0 m 138 ls [])) : ∀ (M : mMm) (x0 : Nat) (x3 : Int32) (x4 : Int32) (x5 : Int32) (x7 : Int32) (y0 : Int32) (y1 : Int32) (y2 : Nat) (H : Heap) (locs : List Loc) (ls : Array Slot), mHp D n0 S M n s H locs → lv_has ls 9 [(0, .ref x0), (3, .int x3), (4, .int x4), (5, .int x5), (7, .int x7)] → fb_X5_layFar_195 S k138 M x0 x3 x4 x5 x7 y0 y1 y2 = some M' → W p l e Rm_X5_layFar s m args below meth c H locs 0 0 (MQ below (mQ D n0 none S M' n) args s 0 0 (mA n0)) (F0 m 195 ls [.int y0, .int y1, .ref y2]) := by
  have hx := X.1.1
  have hb := X.1.2.1
  have hown := X.1.2.2.2.1
  have hts := X.1.2.2.2.2
  intro M x0 x3 x4 x5 x7 y0 y1 y2 H locs ls hp hl hF
  unfold fb_X5_layFar_195 at hF
  obtain ⟨M62, e63, hF⟩ := ob_s hF
  refine m_iaW X hp e63 dX5_layFar_195 (fun H locs hp => ?_)
  obtain ⟨v64, ev65⟩ : ∃ y : Int32, y = x7 + (1 : Int32) := ⟨_, rfl⟩
  have hF := nm_s hF ev65
  refine lv_iinc (v := v64) (lv' := [(7, .int v64), (0, .ref x0), (3, .int x3), (4, .int x4), (5, .int x5)]) hx hb dX5_layFar_196 hl (k := 4) rfl (by rw [ev65]; rfl) (by decide) rfl (fun ls hl => ?_)
  refine lv_goto (tgt := 138) hx hb dX5_layFar_199 (by decide) ?_
  exact hk138 _ _ _ _ _ _ _ _ _ hp (lv_sub hl [1, 2, 3, 4, 0] rfl) hF
def fb_X5_layFar_202 (S : mSh) (k51 : mMm → Nat → Int32 → Int32 → Int32 → Option mMm) (M : mMm) (x0 : Nat) (x3 : Int32) (x4 : Int32) (x5 : Int32) : Option mMm := nm (x5 + (1 : Int32)) fun v42 => (k51 M x0 x3 x4 v42)
theorem b_X5_layFar_202 {M' : mMm} (X : mCx D n0 P p m c cX5_layFar 9 s args yX5_layFar.cls meth none) (k51 : mMm → Nat → Int32 → Int32 → Int32 → Option mMm) (hk51 : ∀ (M : mMm) (x0 : Nat) (x3 : Int32) (x4 : Int32) (x5 : Int32) (H : Heap) (locs : List Loc) (ls : Array Slot), mHp D n0 S M n s H locs → lv_has ls 9 [(0, .ref x0), (3, .int x3), (4, .int x4), (5, .int x5)] → k51 M x0 x3 x4 x5 = some M' → W p l e Rm_X5_layFar s m args below meth c H locs 0 0 (MQ below (mQ D n0 none S M' n) args s 0 0 (mA n0)) (F0 m 51 ls [])) : ∀ (M : mMm) (x0 : Nat) (x3 : Int32) (x4 : Int32) (x5 : Int32) (H : Heap) (locs : List Loc) (ls : Array Slot), mHp D n0 S M n s H locs → lv_has ls 9 [(0, .ref x0), (3, .int x3), (4, .int x4), (5, .int x5)] → fb_X5_layFar_202 S k51 M x0 x3 x4 x5 = some M' → W p l e Rm_X5_layFar s m args below meth c H locs 0 0 (MQ below (mQ D n0 none S M' n) args s 0 0 (mA n0)) (F0 m 202 ls []) := by
  have hx := X.1.1
  have hb := X.1.2.1
  have hown := X.1.2.2.2.1
  have hts := X.1.2.2.2.2
  intro M x0 x3 x4 x5 H locs ls hp hl hF
  unfold fb_X5_layFar_202 at hF
  obtain ⟨v42, ev43⟩ : ∃ y : Int32, y = x5 + (1 : Int32) := ⟨_, rfl⟩
  have hF := nm_s hF ev43
  refine lv_iinc (v := v42) (lv' := [(5, .int v42), (0, .ref x0), (3, .int x3), (4, .int x4)]) hx hb dX5_layFar_202 hl (k := 3) rfl (by rw [ev43]; rfl) (by decide) rfl (fun ls hl => ?_)
  refine lv_goto (tgt := 51) hx hb dX5_layFar_205 (by decide) ?_
  exact hk51 _ _ _ _ _ _ _ _ hp (lv_sub hl [1, 2, 3, 0] rfl) hF
def fb_X5_layFar_138 (S : mSh) (k51 : mMm → Nat → Int32 → Int32 → Int32 → Option mMm) : Nat → mMm → Nat → Int32 → Int32 → Int32 → Int32 → Option mMm
  | 0, _, _, _, _, _, _ => none
  | t + 1, M, x0, x3, x4, x5, x7 => (if (2 : Int32) ≤ x7 then (fb_X5_layFar_202 S k51 M x0 x3 x4 x5) else ob (f_X5_turned (x5 - x5 / (4 : Int32) * (4 : Int32)) x7) fun v48 => nm ((((x5 / (4 : Int32)) * (4 : Int32)) + v48)) fun v49 => ob (rR S M x0 6 23) fun v51 => ob (rR S M x0 6 23) fun v53 => ob (aI S M v53 100 v49) fun v55 => (if v55 = (9999 : Int32) then (fb_X5_layFar_195 S (fb_X5_layFar_138 S k51 t) M x0 x3 x4 x5 x7 (x4 + (1 : Int32)) v49 v51) else ob (rR S M x0 6 23) fun v58 => ob (aI S M v58 100 v49) fun v60 => (fb_X5_layFar_195 S (fb_X5_layFar_138 S k51 t) M x0 x3 x4 x5 x7 v60 v49 v51)))
theorem b_X5_layFar_138 {M' : mMm} (X : mCx D n0 P p m c cX5_layFar 9 s args yX5_layFar.cls meth none) (k51 : mMm → Nat → Int32 → Int32 → Int32 → Option mMm) (hk51 : ∀ (M : mMm) (x0 : Nat) (x3 : Int32) (x4 : Int32) (x5 : Int32) (H : Heap) (locs : List Loc) (ls : Array Slot), mHp D n0 S M n s H locs → lv_has ls 9 [(0, .ref x0), (3, .int x3), (4, .int x4), (5, .int x5)] → k51 M x0 x3 x4 x5 = some M' → W p l e Rm_X5_layFar s m args below meth c H locs 0 0 (MQ below (mQ D n0 none S M' n) args s 0 0 (mA n0)) (F0 m 51 ls [])) : ∀ t : Nat, ∀ (M : mMm) (x0 : Nat) (x3 : Int32) (x4 : Int32) (x5 : Int32) (x7 : Int32) (H : Heap) (locs : List Loc) (ls : Array Slot), mHp D n0 S M n s H locs → lv_has ls 9 [(0, .ref x0), (3, .int x3), (4, .int x4), (5, .int x5), (7, .int x7)] → fb_X5_layFar_138 S k51 t M x0 x3 x4 x5 x7 = some M' → W p l e Rm_X5_layFar s m args below meth c H locs 0 0 (MQ below (mQ D n0 none S M' n) args s 0 0 (mA n0)) (F0 m 138 ls []) := by
  have hx := X.1.1
  have hb := X.1.2.1
  have hown := X.1.2.2.2.1
  have hts := X.1.2.2.2.2
  intro t
  induction t with
  | zero =>
    intro M x0 x3 x4 x5 x7 H locs ls hp hl hF
    have hF : none = some M' := hF
    cases hF
  | succ t ih =>
    intro M x0 x3 x4 x5 x7 H locs ls hp hl hF
    rw [fb_X5_layFar_138] at hF
    refine lv_iload hx hb dX5_layFar_138 (lv_at hl 4 rfl) ?_
    refine lv_iconst (v := 2) hx hb dX5_layFar_140 (by decide) ?_
    refine lv_icmp_ge (tgt := 202) hx hb dX5_layFar_141 (by decide) (fun c46 => ?_) (fun c46 => ?_)
    · have hF := if_p c46 hF
      exact b_X5_layFar_202 X _ hk51 _ _ _ _ _ _ _ _ hp (lv_sub hl [0, 1, 2, 3] rfl) hF
    · have hF := if_n c46 hF
      refine lv_iload hx hb dX5_layFar_144 (lv_at hl 3 rfl) ?_
      refine lv_iconst (v := 4) hx hb dX5_layFar_146 (by decide) ?_
      refine lv_idiv hx hb dX5_layFar_147 (by decide) ?_
      refine lv_iconst (v := 4) hx hb dX5_layFar_148 (by decide) ?_
      refine lv_imul hx hb dX5_layFar_149 ?_
      refine lv_iload hx hb dX5_layFar_150 (lv_at hl 3 rfl) ?_
      refine lv_iconst (v := 4) hx hb dX5_layFar_152 (by decide) ?_
      refine lv_irem hx hb dX5_layFar_153 (by decide) ?_
      refine lv_iload hx hb dX5_layFar_154 (lv_at hl 4 rfl) ?_
      obtain ⟨v48, e47, hF⟩ := ob_s hF
      refine m_callS (As := [.int (x5 - x5 / (4 : Int32) * (4 : Int32)), .int x7]) (rest := [.int ((x5 / (4 : Int32)) * (4 : Int32))]) X hp (w_X5_turned e47) q1743 q1744 q144 q1745 2 rfl ds_X5_turned ⟨Nat.le_of_ble_eq_true rfl, Nat.le_of_ble_eq_true rfl⟩ hl.1 rfl (Nat.le_of_ble_eq_true rfl) dX5_layFar_156 ⟨Nat.le_refl 0, Nat.le_refl 0⟩ (fun H locs hp => ?_)
      refine lv_iadd hx hb dX5_layFar_159 ?_
      refine lv_topi (fun v49 ev50 => ?_)
      have hF := nm_s hF ev50
      refine lv_istore (lv' := [(8, .int v49), (0, .ref x0), (3, .int x3), (4, .int x4), (5, .int x5), (7, .int x7)]) hx hb dX5_layFar_160 hl (by decide) rfl (fun ls hl => ?_)
      refine lv_aload_n hx hb dX5_layFar_162 rfl (lv_at hl 1 rfl) ?_
      obtain ⟨v51, e52, hF⟩ := ob_s hF
      refine m_getR X hp e52 kX5 (Nat.le_of_ble_eq_true rfl) q1482 dX5_layFar_163 ?_
      refine lv_iload hx hb dX5_layFar_166 (lv_at hl 0 rfl) ?_
      refine lv_aload_n hx hb dX5_layFar_168 rfl (lv_at hl 1 rfl) ?_
      obtain ⟨v53, e54, hF⟩ := ob_s hF
      refine m_getR X hp e54 kX5 (Nat.le_of_ble_eq_true rfl) q1482 dX5_layFar_169 ?_
      refine lv_iload hx hb dX5_layFar_172 (lv_at hl 0 rfl) ?_
      obtain ⟨v55, e56, hF⟩ := ob_s hF
      refine m_iaI X hp e56 dX5_layFar_174 ?_
      refine lv_sipush (v := 9999) hx hb dX5_layFar_175 (by decide) ?_
      refine lv_icmp_ne (tgt := 188) hx hb dX5_layFar_178 (by decide) (fun c57 => ?_) (fun c57 => ?_)
      · have hF := if_n c57 hF
        refine lv_aload_n hx hb dX5_layFar_188 rfl (lv_at hl 1 rfl) ?_
        obtain ⟨v58, e59, hF⟩ := ob_s hF
        refine m_getR X hp e59 kX5 (Nat.le_of_ble_eq_true rfl) q1482 dX5_layFar_189 ?_
        refine lv_iload hx hb dX5_layFar_192 (lv_at hl 0 rfl) ?_
        obtain ⟨v60, e61, hF⟩ := ob_s hF
        refine m_iaI X hp e61 dX5_layFar_194 ?_
        exact b_X5_layFar_195 X _ ih _ _ _ _ _ _ _ _ _ _ _ _ hp (lv_sub hl [1, 2, 3, 4, 5] rfl) hF
      · have hF := if_p c57 hF
        refine lv_iload hx hb dX5_layFar_181 (lv_at hl 3 rfl) ?_
        refine lv_iconst (v := 1) hx hb dX5_layFar_183 (by decide) ?_
        refine lv_iadd hx hb dX5_layFar_184 ?_
        refine lv_goto (tgt := 195) hx hb dX5_layFar_185 (by decide) ?_
        exact b_X5_layFar_195 X _ ih _ _ _ _ _ _ _ _ _ _ _ _ hp (lv_sub hl [1, 2, 3, 4, 5] rfl) hF
def fb_X5_layFar_135 (S : mSh) (k51 : mMm → Nat → Int32 → Int32 → Int32 → Option mMm) (M : mMm) (x0 : Nat) (x3 : Int32) (x4 : Int32) (x5 : Int32) : Option mMm := nm ((0 : Int32)) fun v44 => (fb_X5_layFar_138 S k51 FU M x0 x3 x4 x5 v44)
theorem b_X5_layFar_135 {M' : mMm} (X : mCx D n0 P p m c cX5_layFar 9 s args yX5_layFar.cls meth none) (k51 : mMm → Nat → Int32 → Int32 → Int32 → Option mMm) (hk51 : ∀ (M : mMm) (x0 : Nat) (x3 : Int32) (x4 : Int32) (x5 : Int32) (H : Heap) (locs : List Loc) (ls : Array Slot), mHp D n0 S M n s H locs → lv_has ls 9 [(0, .ref x0), (3, .int x3), (4, .int x4), (5, .int x5)] → k51 M x0 x3 x4 x5 = some M' → W p l e Rm_X5_layFar s m args below meth c H locs 0 0 (MQ below (mQ D n0 none S M' n) args s 0 0 (mA n0)) (F0 m 51 ls [])) : ∀ (M : mMm) (x0 : Nat) (x3 : Int32) (x4 : Int32) (x5 : Int32) (H : Heap) (locs : List Loc) (ls : Array Slot), mHp D n0 S M n s H locs → lv_has ls 9 [(0, .ref x0), (3, .int x3), (4, .int x4), (5, .int x5)] → fb_X5_layFar_135 S k51 M x0 x3 x4 x5 = some M' → W p l e Rm_X5_layFar s m args below meth c H locs 0 0 (MQ below (mQ D n0 none S M' n) args s 0 0 (mA n0)) (F0 m 135 ls []) := by
  have hx := X.1.1
  have hb := X.1.2.1
  have hown := X.1.2.2.2.1
  have hts := X.1.2.2.2.2
  intro M x0 x3 x4 x5 H locs ls hp hl hF
  unfold fb_X5_layFar_135 at hF
  refine lv_iconst (v := 0) hx hb dX5_layFar_135 (by decide) ?_
  refine lv_topi (fun v44 ev45 => ?_)
  have hF := nm_s hF ev45
  refine lv_istore (lv' := [(7, .int v44), (0, .ref x0), (3, .int x3), (4, .int x4), (5, .int x5)]) hx hb dX5_layFar_136 hl (by decide) rfl (fun ls hl => ?_)
  exact b_X5_layFar_138 X _ hk51 _ _ _ _ _ _ _ _ _ _ hp (lv_sub hl [1, 2, 3, 4, 0] rfl) hF
def fb_X5_layFar_51 (S : mSh) (k42 : mMm → Nat → Int32 → Int32 → Option mMm) : Nat → mMm → Nat → Int32 → Int32 → Int32 → Option mMm
  | 0, _, _, _, _, _ => none
  | t + 1, M, x0, x3, x4, x5 => (if (576 : Int32) ≤ x5 then nm (x4 + (1 : Int32)) fun v21 => (k42 M x0 x3 v21) else ob (rR S M x0 6 23) fun v23 => ob (aI S M v23 100 x5) fun v25 => (if v25 = x4 then nm ((1 : Int32)) fun v28 => ob (f_X5_onBy S M x0 (x5 / (4 : Int32)) (x5 - x5 / (4 : Int32) * (4 : Int32)) (1 : Int32)) fun v31 => (if v31 = (-1 : Int32) then (fb_X5_layFar_135 S (fb_X5_layFar_51 S k42 t) M x0 v28 x4 x5) else ob (rR S M x0 6 23) fun v33 => ob (aI S M v33 100 (((4 : Int32) * v31) + (x5 - x5 / (4 : Int32) * (4 : Int32)))) fun v35 => (if v35 = (9999 : Int32) then ob (rR S M x0 6 23) fun v38 => ob (wA S M v38 100 (((4 : Int32) * v31) + (x5 - x5 / (4 : Int32) * (4 : Int32))) (.int (x4 + (1 : Int32)))) fun M40 => (fb_X5_layFar_135 S (fb_X5_layFar_51 S k42 t) M40 x0 v28 x4 x5) else (fb_X5_layFar_135 S (fb_X5_layFar_51 S k42 t) M x0 v28 x4 x5))) else (fb_X5_layFar_202 S (fb_X5_layFar_51 S k42 t) M x0 x3 x4 x5)))
theorem b_X5_layFar_51 {M' : mMm} (X : mCx D n0 P p m c cX5_layFar 9 s args yX5_layFar.cls meth none) (k42 : mMm → Nat → Int32 → Int32 → Option mMm) (hk42 : ∀ (M : mMm) (x0 : Nat) (x3 : Int32) (x4 : Int32) (H : Heap) (locs : List Loc) (ls : Array Slot), mHp D n0 S M n s H locs → lv_has ls 9 [(0, .ref x0), (3, .int x3), (4, .int x4)] → k42 M x0 x3 x4 = some M' → W p l e Rm_X5_layFar s m args below meth c H locs 0 0 (MQ below (mQ D n0 none S M' n) args s 0 0 (mA n0)) (F0 m 42 ls [])) : ∀ t : Nat, ∀ (M : mMm) (x0 : Nat) (x3 : Int32) (x4 : Int32) (x5 : Int32) (H : Heap) (locs : List Loc) (ls : Array Slot), mHp D n0 S M n s H locs → lv_has ls 9 [(0, .ref x0), (3, .int x3), (4, .int x4), (5, .int x5)] → fb_X5_layFar_51 S k42 t M x0 x3 x4 x5 = some M' → W p l e Rm_X5_layFar s m args below meth c H locs 0 0 (MQ below (mQ D n0 none S M' n) args s 0 0 (mA n0)) (F0 m 51 ls []) := by
  have hx := X.1.1
  have hb := X.1.2.1
  have hown := X.1.2.2.2.1
  have hts := X.1.2.2.2.2
  intro t
  induction t with
  | zero =>
    intro M x0 x3 x4 x5 H locs ls hp hl hF
    have hF : none = some M' := hF
    cases hF
  | succ t ih =>
    intro M x0 x3 x4 x5 H locs ls hp hl hF
    rw [fb_X5_layFar_51] at hF
    refine lv_iload hx hb dX5_layFar_51 (lv_at hl 3 rfl) ?_
    refine lv_sipush (v := 576) hx hb dX5_layFar_53 (by decide) ?_
    refine lv_icmp_ge (tgt := 208) hx hb dX5_layFar_56 (by decide) (fun c20 => ?_) (fun c20 => ?_)
    · have hF := if_p c20 hF
      obtain ⟨v21, ev22⟩ : ∃ y : Int32, y = x4 + (1 : Int32) := ⟨_, rfl⟩
      have hF := nm_s hF ev22
      refine lv_iinc (v := v21) (lv' := [(4, .int v21), (0, .ref x0), (3, .int x3), (5, .int x5)]) hx hb dX5_layFar_208 hl (k := 2) rfl (by rw [ev22]; rfl) (by decide) rfl (fun ls hl => ?_)
      refine lv_goto (tgt := 42) hx hb dX5_layFar_211 (by decide) ?_
      exact hk42 _ _ _ _ _ _ _ hp (lv_sub hl [1, 2, 0] rfl) hF
    · have hF := if_n c20 hF
      refine lv_aload_n hx hb dX5_layFar_59 rfl (lv_at hl 0 rfl) ?_
      obtain ⟨v23, e24, hF⟩ := ob_s hF
      refine m_getR X hp e24 kX5 (Nat.le_of_ble_eq_true rfl) q1482 dX5_layFar_60 ?_
      refine lv_iload hx hb dX5_layFar_63 (lv_at hl 3 rfl) ?_
      obtain ⟨v25, e26, hF⟩ := ob_s hF
      refine m_iaI X hp e26 dX5_layFar_65 ?_
      refine lv_iload hx hb dX5_layFar_66 (lv_at hl 2 rfl) ?_
      refine lv_icmp_eq (tgt := 74) hx hb dX5_layFar_68 (by decide) (fun c27 => ?_) (fun c27 => ?_)
      · have hF := if_p c27 hF
        refine lv_iconst (v := 1) hx hb dX5_layFar_74 (by decide) ?_
        refine lv_topi (fun v28 ev29 => ?_)
        have hF := nm_s hF ev29
        refine lv_istore_n (lv' := [(3, .int v28), (0, .ref x0), (4, .int x4), (5, .int x5)]) hx hb dX5_layFar_75 rfl hl (by decide) rfl (fun ls hl => ?_)
        refine lv_aload_n hx hb dX5_layFar_76 rfl (lv_at hl 1 rfl) ?_
        refine lv_iload hx hb dX5_layFar_77 (lv_at hl 3 rfl) ?_
        refine lv_iconst (v := 4) hx hb dX5_layFar_79 (by decide) ?_
        refine lv_idiv hx hb dX5_layFar_80 (by decide) ?_
        refine lv_iload hx hb dX5_layFar_81 (lv_at hl 3 rfl) ?_
        refine lv_iconst (v := 4) hx hb dX5_layFar_83 (by decide) ?_
        refine lv_irem hx hb dX5_layFar_84 (by decide) ?_
        refine lv_iconst (v := 1) hx hb dX5_layFar_85 (by decide) ?_
        obtain ⟨v31, e30, hF⟩ := ob_s hF
        refine m_callV (As := [.int (x5 / (4 : Int32)), .int (x5 - x5 / (4 : Int32) * (4 : Int32)), .int (1 : Int32)]) (rest := []) X hp (w_X5_onBy e30) q1915 q1917 qs116 q144 q1918 3 rfl ds_X5_onBy ⟨Nat.le_of_ble_eq_true rfl, Nat.le_of_ble_eq_true rfl⟩ 6 (T := TX5) (N := 40) rfl (by decide) (rR_s e24).1 hl.1 rfl (Nat.le_of_ble_eq_true rfl) dX5_layFar_86 ⟨Nat.le_refl 0, Nat.le_refl 0⟩ (fun H locs hp => ?_)
        refine lv_istore (lv' := [(6, .int v31), (3, .int v28), (0, .ref x0), (4, .int x4), (5, .int x5)]) hx hb dX5_layFar_89 hl (by decide) rfl (fun ls hl => ?_)
        refine lv_iload hx hb dX5_layFar_91 (lv_at hl 0 rfl) ?_
        refine lv_iconst (v := -1) hx hb dX5_layFar_93 (by decide) ?_
        refine lv_icmp_eq (tgt := 135) hx hb dX5_layFar_94 (by decide) (fun c32 => ?_) (fun c32 => ?_)
        · have hF := if_p c32 hF
          exact b_X5_layFar_135 X _ ih _ _ _ _ _ _ _ _ hp (lv_sub hl [2, 1, 3, 4] rfl) hF
        · have hF := if_n c32 hF
          refine lv_aload_n hx hb dX5_layFar_97 rfl (lv_at hl 2 rfl) ?_
          obtain ⟨v33, e34, hF⟩ := ob_s hF
          refine m_getR X hp e34 kX5 (Nat.le_of_ble_eq_true rfl) q1482 dX5_layFar_98 ?_
          refine lv_iconst (v := 4) hx hb dX5_layFar_101 (by decide) ?_
          refine lv_iload hx hb dX5_layFar_102 (lv_at hl 0 rfl) ?_
          refine lv_imul hx hb dX5_layFar_104 ?_
          refine lv_iload hx hb dX5_layFar_105 (lv_at hl 4 rfl) ?_
          refine lv_iconst (v := 4) hx hb dX5_layFar_107 (by decide) ?_
          refine lv_irem hx hb dX5_layFar_108 (by decide) ?_
          refine lv_iadd hx hb dX5_layFar_109 ?_
          obtain ⟨v35, e36, hF⟩ := ob_s hF
          refine m_iaI X hp e36 dX5_layFar_110 ?_
          refine lv_sipush (v := 9999) hx hb dX5_layFar_111 (by decide) ?_
          refine lv_icmp_ne (tgt := 135) hx hb dX5_layFar_114 (by decide) (fun c37 => ?_) (fun c37 => ?_)
          · have hF := if_n c37 hF
            exact b_X5_layFar_135 X _ ih _ _ _ _ _ _ _ _ hp (lv_sub hl [2, 1, 3, 4] rfl) hF
          · have hF := if_p c37 hF
            refine lv_aload_n hx hb dX5_layFar_117 rfl (lv_at hl 2 rfl) ?_
            obtain ⟨v38, e39, hF⟩ := ob_s hF
            refine m_getR X hp e39 kX5 (Nat.le_of_ble_eq_true rfl) q1482 dX5_layFar_118 ?_
            refine lv_iconst (v := 4) hx hb dX5_layFar_121 (by decide) ?_
            refine lv_iload hx hb dX5_layFar_122 (lv_at hl 0 rfl) ?_
            refine lv_imul hx hb dX5_layFar_124 ?_
            refine lv_iload hx hb dX5_layFar_125 (lv_at hl 4 rfl) ?_
            refine lv_iconst (v := 4) hx hb dX5_layFar_127 (by decide) ?_
            refine lv_irem hx hb dX5_layFar_128 (by decide) ?_
            refine lv_iadd hx hb dX5_layFar_129 ?_
            refine lv_iload hx hb dX5_layFar_130 (lv_at hl 3 rfl) ?_
            refine lv_iconst (v := 1) hx hb dX5_layFar_132 (by decide) ?_
            refine lv_iadd hx hb dX5_layFar_133 ?_
            obtain ⟨M40, e41, hF⟩ := ob_s hF
            refine m_iaW X hp e41 dX5_layFar_134 (fun H locs hp => ?_)
            exact b_X5_layFar_135 X _ ih _ _ _ _ _ _ _ _ hp (lv_sub hl [2, 1, 3, 4] rfl) hF
      · have hF := if_n c27 hF
        refine lv_goto (tgt := 202) hx hb dX5_layFar_71 (by decide) ?_
        exact b_X5_layFar_202 X _ ih _ _ _ _ _ _ _ _ hp (lv_sub hl [0, 1, 2, 3] rfl) hF
def fb_X5_layFar_42 (S : mSh) : Nat → mMm → Nat → Int32 → Int32 → Option mMm
  | 0, _, _, _, _ => none
  | t + 1, M, x0, x3, x4 => (if x3 = 0 then some M else nm ((0 : Int32)) fun v16 => nm ((0 : Int32)) fun v18 => (fb_X5_layFar_51 S (fb_X5_layFar_42 S t) FU M x0 v16 x4 v18))
theorem b_X5_layFar_42 {M' : mMm} (X : mCx D n0 P p m c cX5_layFar 9 s args yX5_layFar.cls meth none) : ∀ t : Nat, ∀ (M : mMm) (x0 : Nat) (x3 : Int32) (x4 : Int32) (H : Heap) (locs : List Loc) (ls : Array Slot), mHp D n0 S M n s H locs → lv_has ls 9 [(0, .ref x0), (3, .int x3), (4, .int x4)] → fb_X5_layFar_42 S t M x0 x3 x4 = some M' → W p l e Rm_X5_layFar s m args below meth c H locs 0 0 (MQ below (mQ D n0 none S M' n) args s 0 0 (mA n0)) (F0 m 42 ls []) := by
  have hx := X.1.1
  have hb := X.1.2.1
  have hown := X.1.2.2.2.1
  have hts := X.1.2.2.2.2
  intro t
  induction t with
  | zero =>
    intro M x0 x3 x4 H locs ls hp hl hF
    have hF : none = some M' := hF
    cases hF
  | succ t ih =>
    intro M x0 x3 x4 H locs ls hp hl hF
    rw [fb_X5_layFar_42] at hF
    refine lv_iload_n hx hb dX5_layFar_42 rfl (lv_at hl 1 rfl) ?_
    refine lv_if_eq (tgt := 214) hx hb dX5_layFar_43 (by decide) (fun c15 => ?_) (fun c15 => ?_)
    · have hF := if_p c15 hF
      cases hF
      exact m_vret X hp dX5_layFar_214
    · have hF := if_n c15 hF
      refine lv_iconst (v := 0) hx hb dX5_layFar_46 (by decide) ?_
      refine lv_topi (fun v16 ev17 => ?_)
      have hF := nm_s hF ev17
      refine lv_istore_n (lv' := [(3, .int v16), (0, .ref x0), (4, .int x4)]) hx hb dX5_layFar_47 rfl hl (by decide) rfl (fun ls hl => ?_)
      refine lv_iconst (v := 0) hx hb dX5_layFar_48 (by decide) ?_
      refine lv_topi (fun v18 ev19 => ?_)
      have hF := nm_s hF ev19
      refine lv_istore (lv' := [(5, .int v18), (3, .int v16), (0, .ref x0), (4, .int x4)]) hx hb dX5_layFar_49 hl (by decide) rfl (fun ls hl => ?_)
      exact b_X5_layFar_51 X _ ih _ _ _ _ _ _ _ _ _ hp (lv_sub hl [2, 1, 3, 0] rfl) hF
def fb_X5_layFar_2 (S : mSh) : Nat → mMm → Nat → Int32 → Int32 → Int32 → Option mMm
  | 0, _, _, _, _, _ => none
  | t + 1, M, x0, x1, x2, x3 => (if (576 : Int32) ≤ x3 then nm ((1 : Int32)) fun v4 => nm ((0 : Int32)) fun v6 => (fb_X5_layFar_42 S FU M x0 v4 v6) else ob (rR S M x0 6 23) fun v8 => (if x3 = (((4 : Int32) * x1) + x2) then (fb_X5_layFar_30 S (fb_X5_layFar_2 S t) M x0 x1 x2 x3 (0 : Int32) x3 v8) else (fb_X5_layFar_30 S (fb_X5_layFar_2 S t) M x0 x1 x2 x3 (9999 : Int32) x3 v8)))
theorem b_X5_layFar_2 {M' : mMm} (X : mCx D n0 P p m c cX5_layFar 9 s args yX5_layFar.cls meth none) : ∀ t : Nat, ∀ (M : mMm) (x0 : Nat) (x1 : Int32) (x2 : Int32) (x3 : Int32) (H : Heap) (locs : List Loc) (ls : Array Slot), mHp D n0 S M n s H locs → lv_has ls 9 [(0, .ref x0), (1, .int x1), (2, .int x2), (3, .int x3)] → fb_X5_layFar_2 S t M x0 x1 x2 x3 = some M' → W p l e Rm_X5_layFar s m args below meth c H locs 0 0 (MQ below (mQ D n0 none S M' n) args s 0 0 (mA n0)) (F0 m 2 ls []) := by
  have hx := X.1.1
  have hb := X.1.2.1
  have hown := X.1.2.2.2.1
  have hts := X.1.2.2.2.2
  intro t
  induction t with
  | zero =>
    intro M x0 x1 x2 x3 H locs ls hp hl hF
    have hF : none = some M' := hF
    cases hF
  | succ t ih =>
    intro M x0 x1 x2 x3 H locs ls hp hl hF
    rw [fb_X5_layFar_2] at hF
    refine lv_iload_n hx hb dX5_layFar_2 rfl (lv_at hl 3 rfl) ?_
    refine lv_sipush (v := 576) hx hb dX5_layFar_3 (by decide) ?_
    refine lv_icmp_ge (tgt := 37) hx hb dX5_layFar_6 (by decide) (fun c3 => ?_) (fun c3 => ?_)
    · have hF := if_p c3 hF
      refine lv_iconst (v := 1) hx hb dX5_layFar_37 (by decide) ?_
      refine lv_topi (fun v4 ev5 => ?_)
      have hF := nm_s hF ev5
      refine lv_istore_n (lv' := [(3, .int v4), (0, .ref x0), (1, .int x1), (2, .int x2)]) hx hb dX5_layFar_38 rfl hl (by decide) rfl (fun ls hl => ?_)
      refine lv_iconst (v := 0) hx hb dX5_layFar_39 (by decide) ?_
      refine lv_topi (fun v6 ev7 => ?_)
      have hF := nm_s hF ev7
      refine lv_istore (lv' := [(4, .int v6), (3, .int v4), (0, .ref x0), (1, .int x1), (2, .int x2)]) hx hb dX5_layFar_40 hl (by decide) rfl (fun ls hl => ?_)
      exact b_X5_layFar_42 X _ _ _ _ _ _ _ _ hp (lv_sub hl [2, 1, 0] rfl) hF
    · have hF := if_n c3 hF
      refine lv_aload_n hx hb dX5_layFar_9 rfl (lv_at hl 0 rfl) ?_
      obtain ⟨v8, e9, hF⟩ := ob_s hF
      refine m_getR X hp e9 kX5 (Nat.le_of_ble_eq_true rfl) q1482 dX5_layFar_10 ?_
      refine lv_iload_n hx hb dX5_layFar_13 rfl (lv_at hl 3 rfl) ?_
      refine lv_iload_n hx hb dX5_layFar_14 rfl (lv_at hl 3 rfl) ?_
      refine lv_iconst (v := 4) hx hb dX5_layFar_15 (by decide) ?_
      refine lv_iload_n hx hb dX5_layFar_16 rfl (lv_at hl 1 rfl) ?_
      refine lv_imul hx hb dX5_layFar_17 ?_
      refine lv_iload_n hx hb dX5_layFar_18 rfl (lv_at hl 2 rfl) ?_
      refine lv_iadd hx hb dX5_layFar_19 ?_
      refine lv_icmp_ne (tgt := 27) hx hb dX5_layFar_20 (by decide) (fun c10 => ?_) (fun c10 => ?_)
      · have hF := if_n c10 hF
        refine lv_sipush (v := 9999) hx hb dX5_layFar_27 (by decide) ?_
        exact b_X5_layFar_30 X _ ih _ _ _ _ _ _ _ _ _ _ _ hp (lv_sub hl [0, 1, 2, 3] rfl) hF
      · have hF := if_p c10 hF
        refine lv_iconst (v := 0) hx hb dX5_layFar_23 (by decide) ?_
        refine lv_goto (tgt := 30) hx hb dX5_layFar_24 (by decide) ?_
        exact b_X5_layFar_30 X _ ih _ _ _ _ _ _ _ _ _ _ _ hp (lv_sub hl [0, 1, 2, 3] rfl) hF
def f_X5_layFar (S : mSh) (M : mMm) (x0 : Nat) (x1 : Int32) (x2 : Int32) : Option mMm := nm ((0 : Int32)) fun v1 => (fb_X5_layFar_2 S FU M x0 x1 x2 v1)
theorem w_X5_layFar {x0 : Nat} {x1 : Int32} {x2 : Int32} {M' : mMm} (hF : f_X5_layFar S M x0 x1 x2 = some M') : mCt l D n0 P yX5_layFar cX5_layFar 9 none 3 68 0 0 [.ref x0, .int x1, .int x2] S M n none S M' n := by
  refine m_ofW (by decide) (Nat.le_of_ble_eq_true rfl) (fun p e s m below meth c X hnm hp ls hl => ?_)
  have hx := X.1.1
  have hb := X.1.2.1
  have hown := X.1.2.2.2.1
  have hts := X.1.2.2.2.2
  have hl : lv_has ls 9 [(0, .ref x0), (1, .int x1), (2, .int x2)] := hl
  unfold f_X5_layFar at hF
  refine lv_iconst (v := 0) hx hb dX5_layFar_0 (by decide) ?_
  refine lv_topi (fun v1 ev2 => ?_)
  have hF := nm_s hF ev2
  refine lv_istore_n (lv' := [(3, .int v1), (0, .ref x0), (1, .int x1), (2, .int x2)]) hx hb dX5_layFar_1 rfl hl (by decide) rfl (fun ls hl => ?_)
  exact b_X5_layFar_2 X _ _ _ _ _ _ _ _ _ hp (lv_sub hl [1, 2, 3, 0] rfl) hF
end
section
variable {l : Launch} {D : va_G} {n0 : Nat} {P : mP} {S : mSh} {M : mMm} {n : Nat} {p : Program} {e : Env} {s : State} {m : MethodId} {args : Array Value} {below : List Frame} {meth : Method} {c : Code}
abbrev Rm_X5_straightOn : Room := { frames := 3, cells := 0, slots := 0, locals := 68 }
def fb_X5_straightOn_109 (S : mSh) (k10 : mMm → Nat → Int32 → Int32 → Int32 → Option mMm) (M : mMm) (x0 : Nat) (x1 : Int32) (x2 : Int32) (x3 : Int32) : Option mMm := nm (x3 + (1 : Int32)) fun v32 => (k10 M x0 x1 x2 v32)
theorem b_X5_straightOn_109 {M' : mMm} (X : mCx D n0 P p m c cX5_straightOn 6 s args yX5_straightOn.cls meth none) (k10 : mMm → Nat → Int32 → Int32 → Int32 → Option mMm) (hk10 : ∀ (M : mMm) (x0 : Nat) (x1 : Int32) (x2 : Int32) (x3 : Int32) (H : Heap) (locs : List Loc) (ls : Array Slot), mHp D n0 S M n s H locs → lv_has ls 6 [(0, .ref x0), (1, .int x1), (2, .int x2), (3, .int x3)] → k10 M x0 x1 x2 x3 = some M' → W p l e Rm_X5_straightOn s m args below meth c H locs 0 0 (MQ below (mQ D n0 none S M' n) args s 0 0 (mA n0)) (F0 m 10 ls [])) : ∀ (M : mMm) (x0 : Nat) (x1 : Int32) (x2 : Int32) (x3 : Int32) (H : Heap) (locs : List Loc) (ls : Array Slot), mHp D n0 S M n s H locs → lv_has ls 6 [(0, .ref x0), (1, .int x1), (2, .int x2), (3, .int x3)] → fb_X5_straightOn_109 S k10 M x0 x1 x2 x3 = some M' → W p l e Rm_X5_straightOn s m args below meth c H locs 0 0 (MQ below (mQ D n0 none S M' n) args s 0 0 (mA n0)) (F0 m 109 ls []) := by
  have hx := X.1.1
  have hb := X.1.2.1
  have hown := X.1.2.2.2.1
  have hts := X.1.2.2.2.2
  intro M x0 x1 x2 x3 H locs ls hp hl hF
  unfold fb_X5_straightOn_109 at hF
  obtain ⟨v32, ev33⟩ : ∃ y : Int32, y = x3 + (1 : Int32) := ⟨_, rfl⟩
  have hF := nm_s hF ev33
  refine lv_iinc (v := v32) (lv' := [(3, .int v32), (0, .ref x0), (1, .int x1), (2, .int x2)]) hx hb dX5_straightOn_109 hl (k := 3) rfl (by rw [ev33]; rfl) (by decide) rfl (fun ls hl => ?_)
  refine lv_goto (tgt := 10) hx hb dX5_straightOn_112 (by decide) ?_
  exact hk10 _ _ _ _ _ _ _ _ hp (lv_sub hl [1, 2, 3, 0] rfl) hF
def fb_X5_straightOn_44 (S : mSh) (k10 : mMm → Nat → Int32 → Int32 → Int32 → Option mMm) (M : mMm) (x0 : Nat) (x1 : Int32) (x2 : Int32) (x3 : Int32) (y0 : Int32) : Option mMm := (if y0 = (-1 : Int32) then (fb_X5_straightOn_109 S k10 M x0 x1 x2 x3) else ob (rR S M x0 6 22) fun v17 => ob (aI S M v17 100 (((x1 * (576 : Int32)) + ((4 : Int32) * y0)) + (x3 - x3 / (4 : Int32) * (4 : Int32)))) fun v19 => nm ((v19 + (1 : Int32))) fun v21 => ob (rR S M x0 6 22) fun v23 => ob (aI S M v23 100 ((x1 * (576 : Int32)) + x3)) fun v25 => (if v25 ≤ v21 then (fb_X5_straightOn_109 S k10 M x0 x1 x2 x3) else ob (rR S M x0 6 22) fun v28 => ob (wA S M v28 100 ((x1 * (576 : Int32)) + x3) (.int v21)) fun M30 => (fb_X5_straightOn_109 S k10 M30 x0 x1 x2 x3)))
theorem b_X5_straightOn_44 {M' : mMm} (X : mCx D n0 P p m c cX5_straightOn 6 s args yX5_straightOn.cls meth none) (k10 : mMm → Nat → Int32 → Int32 → Int32 → Option mMm) (hk10 : ∀ (M : mMm) (x0 : Nat) (x1 : Int32) (x2 : Int32) (x3 : Int32) (H : Heap) (locs : List Loc) (ls : Array Slot), mHp D n0 S M n s H locs → lv_has ls 6 [(0, .ref x0), (1, .int x1), (2, .int x2), (3, .int x3)] → k10 M x0 x1 x2 x3 = some M' → W p l e Rm_X5_straightOn s m args below meth c H locs 0 0 (MQ below (mQ D n0 none S M' n) args s 0 0 (mA n0)) (F0 m 10 ls [])) : ∀ (M : mMm) (x0 : Nat) (x1 : Int32) (x2 : Int32) (x3 : Int32) (y0 : Int32) (H : Heap) (locs : List Loc) (ls : Array Slot), mHp D n0 S M n s H locs → lv_has ls 6 [(0, .ref x0), (1, .int x1), (2, .int x2), (3, .int x3)] → fb_X5_straightOn_44 S k10 M x0 x1 x2 x3 y0 = some M' → W p l e Rm_X5_straightOn s m args below meth c H locs 0 0 (MQ below (mQ D n0 none S M' n) args s 0 0 (mA n0)) (F0 m 44 ls [.int y0]) := by
  have hx := X.1.1
  have hb := X.1.2.1
  have hown := X.1.2.2.2.1
  have hts := X.1.2.2.2.2
  intro M x0 x1 x2 x3 y0 H locs ls hp hl hF
  unfold fb_X5_straightOn_44 at hF
  refine lv_istore (lv' := [(4, .int y0), (0, .ref x0), (1, .int x1), (2, .int x2), (3, .int x3)]) hx hb dX5_straightOn_44 hl (by decide) rfl (fun ls hl => ?_)
  refine lv_iload hx hb dX5_straightOn_46 (lv_at hl 0 rfl) ?_
  refine lv_iconst (v := -1) hx hb dX5_straightOn_48 (by decide) ?_
  refine lv_icmp_ne (tgt := 55) hx hb dX5_straightOn_49 (by decide) (fun c16 => ?_) (fun c16 => ?_)
  · have hF := if_n c16 hF
    refine lv_aload_n hx hb dX5_straightOn_55 rfl (lv_at hl 1 rfl) ?_
    obtain ⟨v17, e18, hF⟩ := ob_s hF
    refine m_getR X hp e18 kX5 (Nat.le_of_ble_eq_true rfl) q1481 dX5_straightOn_56 ?_
    refine lv_iload_n hx hb dX5_straightOn_59 rfl (lv_at hl 2 rfl) ?_
    refine lv_sipush (v := 576) hx hb dX5_straightOn_60 (by decide) ?_
    refine lv_imul hx hb dX5_straightOn_63 ?_
    refine lv_iconst (v := 4) hx hb dX5_straightOn_64 (by decide) ?_
    refine lv_iload hx hb dX5_straightOn_65 (lv_at hl 0 rfl) ?_
    refine lv_imul hx hb dX5_straightOn_67 ?_
    refine lv_iadd hx hb dX5_straightOn_68 ?_
    refine lv_iload_n hx hb dX5_straightOn_69 rfl (lv_at hl 4 rfl) ?_
    refine lv_iconst (v := 4) hx hb dX5_straightOn_70 (by decide) ?_
    refine lv_irem hx hb dX5_straightOn_71 (by decide) ?_
    refine lv_iadd hx hb dX5_straightOn_72 ?_
    obtain ⟨v19, e20, hF⟩ := ob_s hF
    refine m_iaI X hp e20 dX5_straightOn_73 ?_
    refine lv_iconst (v := 1) hx hb dX5_straightOn_74 (by decide) ?_
    refine lv_iadd hx hb dX5_straightOn_75 ?_
    refine lv_topi (fun v21 ev22 => ?_)
    have hF := nm_s hF ev22
    refine lv_istore (lv' := [(5, .int v21), (4, .int y0), (0, .ref x0), (1, .int x1), (2, .int x2), (3, .int x3)]) hx hb dX5_straightOn_76 hl (by decide) rfl (fun ls hl => ?_)
    refine lv_iload hx hb dX5_straightOn_78 (lv_at hl 0 rfl) ?_
    refine lv_aload_n hx hb dX5_straightOn_80 rfl (lv_at hl 2 rfl) ?_
    obtain ⟨v23, e24, hF⟩ := ob_s hF
    refine m_getR X hp e24 kX5 (Nat.le_of_ble_eq_true rfl) q1481 dX5_straightOn_81 ?_
    refine lv_iload_n hx hb dX5_straightOn_84 rfl (lv_at hl 3 rfl) ?_
    refine lv_sipush (v := 576) hx hb dX5_straightOn_85 (by decide) ?_
    refine lv_imul hx hb dX5_straightOn_88 ?_
    refine lv_iload_n hx hb dX5_straightOn_89 rfl (lv_at hl 5 rfl) ?_
    refine lv_iadd hx hb dX5_straightOn_90 ?_
    obtain ⟨v25, e26, hF⟩ := ob_s hF
    refine m_iaI X hp e26 dX5_straightOn_91 ?_
    refine lv_icmp_ge (tgt := 109) hx hb dX5_straightOn_92 (by decide) (fun c27 => ?_) (fun c27 => ?_)
    · have hF := if_p c27 hF
      exact b_X5_straightOn_109 X _ hk10 _ _ _ _ _ _ _ _ hp (lv_sub hl [2, 3, 4, 5] rfl) hF
    · have hF := if_n c27 hF
      refine lv_aload_n hx hb dX5_straightOn_95 rfl (lv_at hl 2 rfl) ?_
      obtain ⟨v28, e29, hF⟩ := ob_s hF
      refine m_getR X hp e29 kX5 (Nat.le_of_ble_eq_true rfl) q1481 dX5_straightOn_96 ?_
      refine lv_iload_n hx hb dX5_straightOn_99 rfl (lv_at hl 3 rfl) ?_
      refine lv_sipush (v := 576) hx hb dX5_straightOn_100 (by decide) ?_
      refine lv_imul hx hb dX5_straightOn_103 ?_
      refine lv_iload_n hx hb dX5_straightOn_104 rfl (lv_at hl 5 rfl) ?_
      refine lv_iadd hx hb dX5_straightOn_105 ?_
      refine lv_iload hx hb dX5_straightOn_106 (lv_at hl 0 rfl) ?_
      obtain ⟨M30, e31, hF⟩ := ob_s hF
      refine m_iaW X hp e31 dX5_straightOn_108 (fun H locs hp => ?_)
      exact b_X5_straightOn_109 X _ hk10 _ _ _ _ _ _ _ _ hp (lv_sub hl [2, 3, 4, 5] rfl) hF
  · have hF := if_p c16 hF
    refine lv_goto (tgt := 109) hx hb dX5_straightOn_52 (by decide) ?_
    exact b_X5_straightOn_109 X _ hk10 _ _ _ _ _ _ _ _ hp (lv_sub hl [1, 2, 3, 4] rfl) hF
def fb_X5_straightOn_10 (S : mSh) (k2 : mMm → Nat → Int32 → Int32 → Option mMm) : Nat → mMm → Nat → Int32 → Int32 → Int32 → Option mMm
  | 0, _, _, _, _, _ => none
  | t + 1, M, x0, x1, x2, x3 => (if (576 : Int32) ≤ x3 then nm (x2 + (1 : Int32)) fun v7 => (k2 M x0 x1 v7) else ob (rR S M x0 6 0) fun v9 => ob (aI S M v9 100 (x3 / (4 : Int32))) fun v11 => (if v11 = (1 : Int32) then (fb_X5_straightOn_44 S (fb_X5_straightOn_10 S k2 t) M x0 x1 x2 x3 (-1 : Int32)) else ob (f_X5_onBy S M x0 (x3 / (4 : Int32)) (x3 - x3 / (4 : Int32) * (4 : Int32)) (-1 : Int32)) fun v15 => (fb_X5_straightOn_44 S (fb_X5_straightOn_10 S k2 t) M x0 x1 x2 x3 v15)))
theorem b_X5_straightOn_10 {M' : mMm} (X : mCx D n0 P p m c cX5_straightOn 6 s args yX5_straightOn.cls meth none) (k2 : mMm → Nat → Int32 → Int32 → Option mMm) (hk2 : ∀ (M : mMm) (x0 : Nat) (x1 : Int32) (x2 : Int32) (H : Heap) (locs : List Loc) (ls : Array Slot), mHp D n0 S M n s H locs → lv_has ls 6 [(0, .ref x0), (1, .int x1), (2, .int x2)] → k2 M x0 x1 x2 = some M' → W p l e Rm_X5_straightOn s m args below meth c H locs 0 0 (MQ below (mQ D n0 none S M' n) args s 0 0 (mA n0)) (F0 m 2 ls [])) : ∀ t : Nat, ∀ (M : mMm) (x0 : Nat) (x1 : Int32) (x2 : Int32) (x3 : Int32) (H : Heap) (locs : List Loc) (ls : Array Slot), mHp D n0 S M n s H locs → lv_has ls 6 [(0, .ref x0), (1, .int x1), (2, .int x2), (3, .int x3)] → fb_X5_straightOn_10 S k2 t M x0 x1 x2 x3 = some M' → W p l e Rm_X5_straightOn s m args below meth c H locs 0 0 (MQ below (mQ D n0 none S M' n) args s 0 0 (mA n0)) (F0 m 10 ls []) := by
  have hx := X.1.1
  have hb := X.1.2.1
  have hown := X.1.2.2.2.1
  have hts := X.1.2.2.2.2
  intro t
  induction t with
  | zero =>
    intro M x0 x1 x2 x3 H locs ls hp hl hF
    have hF : none = some M' := hF
    cases hF
  | succ t ih =>
    intro M x0 x1 x2 x3 H locs ls hp hl hF
    rw [fb_X5_straightOn_10] at hF
    refine lv_iload_n hx hb dX5_straightOn_10 rfl (lv_at hl 3 rfl) ?_
    refine lv_sipush (v := 576) hx hb dX5_straightOn_11 (by decide) ?_
    refine lv_icmp_ge (tgt := 115) hx hb dX5_straightOn_14 (by decide) (fun c6 => ?_) (fun c6 => ?_)
    · have hF := if_p c6 hF
      obtain ⟨v7, ev8⟩ : ∃ y : Int32, y = x2 + (1 : Int32) := ⟨_, rfl⟩
      have hF := nm_s hF ev8
      refine lv_iinc (v := v7) (lv' := [(2, .int v7), (0, .ref x0), (1, .int x1), (3, .int x3)]) hx hb dX5_straightOn_115 hl (k := 2) rfl (by rw [ev8]; rfl) (by decide) rfl (fun ls hl => ?_)
      refine lv_goto (tgt := 2) hx hb dX5_straightOn_118 (by decide) ?_
      exact hk2 _ _ _ _ _ _ _ hp (lv_sub hl [1, 2, 0] rfl) hF
    · have hF := if_n c6 hF
      refine lv_aload_n hx hb dX5_straightOn_17 rfl (lv_at hl 0 rfl) ?_
      obtain ⟨v9, e10, hF⟩ := ob_s hF
      refine m_getR X hp e10 kX5 (Nat.le_of_ble_eq_true rfl) q1459 dX5_straightOn_18 ?_
      refine lv_iload_n hx hb dX5_straightOn_21 rfl (lv_at hl 3 rfl) ?_
      refine lv_iconst (v := 4) hx hb dX5_straightOn_22 (by decide) ?_
      refine lv_idiv hx hb dX5_straightOn_23 (by decide) ?_
      obtain ⟨v11, e12, hF⟩ := ob_s hF
      refine m_iaI X hp e12 dX5_straightOn_24 ?_
      refine lv_iconst (v := 1) hx hb dX5_straightOn_25 (by decide) ?_
      refine lv_icmp_ne (tgt := 33) hx hb dX5_straightOn_26 (by decide) (fun c13 => ?_) (fun c13 => ?_)
      · have hF := if_n c13 hF
        refine lv_aload_n hx hb dX5_straightOn_33 rfl (lv_at hl 0 rfl) ?_
        refine lv_iload_n hx hb dX5_straightOn_34 rfl (lv_at hl 3 rfl) ?_
        refine lv_iconst (v := 4) hx hb dX5_straightOn_35 (by decide) ?_
        refine lv_idiv hx hb dX5_straightOn_36 (by decide) ?_
        refine lv_iload_n hx hb dX5_straightOn_37 rfl (lv_at hl 3 rfl) ?_
        refine lv_iconst (v := 4) hx hb dX5_straightOn_38 (by decide) ?_
        refine lv_irem hx hb dX5_straightOn_39 (by decide) ?_
        refine lv_iconst (v := -1) hx hb dX5_straightOn_40 (by decide) ?_
        obtain ⟨v15, e14, hF⟩ := ob_s hF
        refine m_callV (As := [.int (x3 / (4 : Int32)), .int (x3 - x3 / (4 : Int32) * (4 : Int32)), .int (-1 : Int32)]) (rest := []) X hp (w_X5_onBy e14) q1915 q1917 qs116 q144 q1918 3 rfl ds_X5_onBy ⟨Nat.le_of_ble_eq_true rfl, Nat.le_of_ble_eq_true rfl⟩ 6 (T := TX5) (N := 40) rfl (by decide) (rR_s e10).1 hl.1 rfl (Nat.le_of_ble_eq_true rfl) dX5_straightOn_41 ⟨Nat.le_refl 0, Nat.le_refl 0⟩ (fun H locs hp => ?_)
        exact b_X5_straightOn_44 X _ ih _ _ _ _ _ _ _ _ _ hp (lv_sub hl [0, 1, 2, 3] rfl) hF
      · have hF := if_p c13 hF
        refine lv_iconst (v := -1) hx hb dX5_straightOn_29 (by decide) ?_
        refine lv_goto (tgt := 44) hx hb dX5_straightOn_30 (by decide) ?_
        exact b_X5_straightOn_44 X _ ih _ _ _ _ _ _ _ _ _ hp (lv_sub hl [0, 1, 2, 3] rfl) hF
def fb_X5_straightOn_2 (S : mSh) : Nat → mMm → Nat → Int32 → Int32 → Option mMm
  | 0, _, _, _, _ => none
  | t + 1, M, x0, x1, x2 => (if (12 : Int32) ≤ x2 then some M else nm ((0 : Int32)) fun v4 => (fb_X5_straightOn_10 S (fb_X5_straightOn_2 S t) FU M x0 x1 x2 v4))
theorem b_X5_straightOn_2 {M' : mMm} (X : mCx D n0 P p m c cX5_straightOn 6 s args yX5_straightOn.cls meth none) : ∀ t : Nat, ∀ (M : mMm) (x0 : Nat) (x1 : Int32) (x2 : Int32) (H : Heap) (locs : List Loc) (ls : Array Slot), mHp D n0 S M n s H locs → lv_has ls 6 [(0, .ref x0), (1, .int x1), (2, .int x2)] → fb_X5_straightOn_2 S t M x0 x1 x2 = some M' → W p l e Rm_X5_straightOn s m args below meth c H locs 0 0 (MQ below (mQ D n0 none S M' n) args s 0 0 (mA n0)) (F0 m 2 ls []) := by
  have hx := X.1.1
  have hb := X.1.2.1
  have hown := X.1.2.2.2.1
  have hts := X.1.2.2.2.2
  intro t
  induction t with
  | zero =>
    intro M x0 x1 x2 H locs ls hp hl hF
    have hF : none = some M' := hF
    cases hF
  | succ t ih =>
    intro M x0 x1 x2 H locs ls hp hl hF
    rw [fb_X5_straightOn_2] at hF
    refine lv_iload_n hx hb dX5_straightOn_2 rfl (lv_at hl 2 rfl) ?_
    refine lv_bipush (v := 12) hx hb dX5_straightOn_3 (by decide) ?_
    refine lv_icmp_ge (tgt := 121) hx hb dX5_straightOn_5 (by decide) (fun c3 => ?_) (fun c3 => ?_)
    · have hF := if_p c3 hF
      cases hF
      exact m_vret X hp dX5_straightOn_121
    · have hF := if_n c3 hF
      refine lv_iconst (v := 0) hx hb dX5_straightOn_8 (by decide) ?_
      refine lv_topi (fun v4 ev5 => ?_)
      have hF := nm_s hF ev5
      refine lv_istore_n (lv' := [(3, .int v4), (0, .ref x0), (1, .int x1), (2, .int x2)]) hx hb dX5_straightOn_9 rfl hl (by decide) rfl (fun ls hl => ?_)
      exact b_X5_straightOn_10 X _ ih _ _ _ _ _ _ _ _ _ hp (lv_sub hl [1, 2, 3, 0] rfl) hF
def f_X5_straightOn (S : mSh) (M : mMm) (x0 : Nat) (x1 : Int32) : Option mMm := nm ((1 : Int32)) fun v1 => (fb_X5_straightOn_2 S FU M x0 x1 v1)
theorem w_X5_straightOn {x0 : Nat} {x1 : Int32} {M' : mMm} (hF : f_X5_straightOn S M x0 x1 = some M') : mCt l D n0 P yX5_straightOn cX5_straightOn 6 none 3 68 0 0 [.ref x0, .int x1] S M n none S M' n := by
  refine m_ofW (by decide) (Nat.le_of_ble_eq_true rfl) (fun p e s m below meth c X hnm hp ls hl => ?_)
  have hx := X.1.1
  have hb := X.1.2.1
  have hown := X.1.2.2.2.1
  have hts := X.1.2.2.2.2
  have hl : lv_has ls 6 [(0, .ref x0), (1, .int x1)] := hl
  unfold f_X5_straightOn at hF
  refine lv_iconst (v := 1) hx hb dX5_straightOn_0 (by decide) ?_
  refine lv_topi (fun v1 ev2 => ?_)
  have hF := nm_s hF ev2
  refine lv_istore_n (lv' := [(2, .int v1), (0, .ref x0), (1, .int x1)]) hx hb dX5_straightOn_1 rfl hl (by decide) rfl (fun ls hl => ?_)
  exact b_X5_straightOn_2 X _ _ _ _ _ _ _ _ hp (lv_sub hl [1, 2, 0] rfl) hF
end
section
variable {l : Launch} {D : va_G} {n0 : Nat} {P : mP} {S : mSh} {M : mMm} {n : Nat} {p : Program} {e : Env} {s : State} {m : MethodId} {args : Array Value} {below : List Frame} {meth : Method} {c : Code}
abbrev Rm_X5_laySteps : Room := { frames := 4, cells := 0, slots := 0, locals := 93 }
def fb_X5_laySteps_118 (S : mSh) (k11 : mMm → Nat → Int32 → Int32 → Int32 → Int32 → Option mMm) (M : mMm) (x0 : Nat) (x1 : Int32) (x2 : Int32) (x3 : Int32) (x4 : Int32) (x5 : Int32) : Option mMm := ob (rR S M x0 6 22) fun v25 => ob (wA S M v25 100 ((x3 * (576 : Int32)) + x4) (.int x5)) fun M27 => nm (x4 + (1 : Int32)) fun v29 => (k11 M27 x0 x1 x2 x3 v29)
theorem b_X5_laySteps_118 {M' : mMm} (X : mCx D n0 P p m c cX5_laySteps 8 s args yX5_laySteps.cls meth none) (k11 : mMm → Nat → Int32 → Int32 → Int32 → Int32 → Option mMm) (hk11 : ∀ (M : mMm) (x0 : Nat) (x1 : Int32) (x2 : Int32) (x3 : Int32) (x4 : Int32) (H : Heap) (locs : List Loc) (ls : Array Slot), mHp D n0 S M n s H locs → lv_has ls 8 [(0, .ref x0), (1, .int x1), (2, .int x2), (3, .int x3), (4, .int x4)] → k11 M x0 x1 x2 x3 x4 = some M' → W p l e Rm_X5_laySteps s m args below meth c H locs 0 0 (MQ below (mQ D n0 none S M' n) args s 0 0 (mA n0)) (F0 m 11 ls [])) : ∀ (M : mMm) (x0 : Nat) (x1 : Int32) (x2 : Int32) (x3 : Int32) (x4 : Int32) (x5 : Int32) (H : Heap) (locs : List Loc) (ls : Array Slot), mHp D n0 S M n s H locs → lv_has ls 8 [(0, .ref x0), (1, .int x1), (2, .int x2), (3, .int x3), (4, .int x4), (5, .int x5)] → fb_X5_laySteps_118 S k11 M x0 x1 x2 x3 x4 x5 = some M' → W p l e Rm_X5_laySteps s m args below meth c H locs 0 0 (MQ below (mQ D n0 none S M' n) args s 0 0 (mA n0)) (F0 m 118 ls []) := by
  have hx := X.1.1
  have hb := X.1.2.1
  have hown := X.1.2.2.2.1
  have hts := X.1.2.2.2.2
  intro M x0 x1 x2 x3 x4 x5 H locs ls hp hl hF
  unfold fb_X5_laySteps_118 at hF
  refine lv_aload_n hx hb dX5_laySteps_118 rfl (lv_at hl 0 rfl) ?_
  obtain ⟨v25, e26, hF⟩ := ob_s hF
  refine m_getR X hp e26 kX5 (Nat.le_of_ble_eq_true rfl) q1481 dX5_laySteps_119 ?_
  refine lv_iload_n hx hb dX5_laySteps_122 rfl (lv_at hl 3 rfl) ?_
  refine lv_sipush (v := 576) hx hb dX5_laySteps_123 (by decide) ?_
  refine lv_imul hx hb dX5_laySteps_126 ?_
  refine lv_iload hx hb dX5_laySteps_127 (lv_at hl 4 rfl) ?_
  refine lv_iadd hx hb dX5_laySteps_129 ?_
  refine lv_iload hx hb dX5_laySteps_130 (lv_at hl 5 rfl) ?_
  obtain ⟨M27, e28, hF⟩ := ob_s hF
  refine m_iaW X hp e28 dX5_laySteps_132 (fun H locs hp => ?_)
  obtain ⟨v29, ev30⟩ : ∃ y : Int32, y = x4 + (1 : Int32) := ⟨_, rfl⟩
  have hF := nm_s hF ev30
  refine lv_iinc (v := v29) (lv' := [(4, .int v29), (0, .ref x0), (1, .int x1), (2, .int x2), (3, .int x3), (5, .int x5)]) hx hb dX5_laySteps_133 hl (k := 4) rfl (by rw [ev30]; rfl) (by decide) rfl (fun ls hl => ?_)
  refine lv_goto (tgt := 11) hx hb dX5_laySteps_136 (by decide) ?_
  exact hk11 _ _ _ _ _ _ _ _ _ hp (lv_sub hl [1, 2, 3, 4, 0] rfl) hF
def fb_X5_laySteps_116 (S : mSh) (k11 : mMm → Nat → Int32 → Int32 → Int32 → Int32 → Option mMm) (M : mMm) (x0 : Nat) (x1 : Int32) (x2 : Int32) (x3 : Int32) (x4 : Int32) (y0 : Int32) : Option mMm := (fb_X5_laySteps_118 S k11 M x0 x1 x2 x3 x4 y0)
theorem b_X5_laySteps_116 {M' : mMm} (X : mCx D n0 P p m c cX5_laySteps 8 s args yX5_laySteps.cls meth none) (k11 : mMm → Nat → Int32 → Int32 → Int32 → Int32 → Option mMm) (hk11 : ∀ (M : mMm) (x0 : Nat) (x1 : Int32) (x2 : Int32) (x3 : Int32) (x4 : Int32) (H : Heap) (locs : List Loc) (ls : Array Slot), mHp D n0 S M n s H locs → lv_has ls 8 [(0, .ref x0), (1, .int x1), (2, .int x2), (3, .int x3), (4, .int x4)] → k11 M x0 x1 x2 x3 x4 = some M' → W p l e Rm_X5_laySteps s m args below meth c H locs 0 0 (MQ below (mQ D n0 none S M' n) args s 0 0 (mA n0)) (F0 m 11 ls [])) : ∀ (M : mMm) (x0 : Nat) (x1 : Int32) (x2 : Int32) (x3 : Int32) (x4 : Int32) (y0 : Int32) (H : Heap) (locs : List Loc) (ls : Array Slot), mHp D n0 S M n s H locs → lv_has ls 8 [(0, .ref x0), (1, .int x1), (2, .int x2), (3, .int x3), (4, .int x4)] → fb_X5_laySteps_116 S k11 M x0 x1 x2 x3 x4 y0 = some M' → W p l e Rm_X5_laySteps s m args below meth c H locs 0 0 (MQ below (mQ D n0 none S M' n) args s 0 0 (mA n0)) (F0 m 116 ls [.int y0]) := by
  have hx := X.1.1
  have hb := X.1.2.1
  have hown := X.1.2.2.2.1
  have hts := X.1.2.2.2.2
  intro M x0 x1 x2 x3 x4 y0 H locs ls hp hl hF
  unfold fb_X5_laySteps_116 at hF
  refine lv_istore (lv' := [(5, .int y0), (0, .ref x0), (1, .int x1), (2, .int x2), (3, .int x3), (4, .int x4)]) hx hb dX5_laySteps_116 hl (by decide) rfl (fun ls hl => ?_)
  exact b_X5_laySteps_118 X _ hk11 _ _ _ _ _ _ _ _ _ _ hp (lv_sub hl [1, 2, 3, 4, 5, 0] rfl) hF
def fb_X5_laySteps_40 (S : mSh) (k11 : mMm → Nat → Int32 → Int32 → Int32 → Int32 → Option mMm) (M : mMm) (x0 : Nat) (x1 : Int32) (x2 : Int32) (x3 : Int32) (x4 : Int32) (y0 : Int32) : Option mMm := (if x3 ≤ 0 then (fb_X5_laySteps_118 S k11 M x0 x1 x2 x3 x4 y0) else ob (rR S M x0 6 22) fun v16 => ob (aI S M v16 100 ((((x3 - (1 : Int32)) * (576 : Int32)) + ((x4 / (4 : Int32)) * (4 : Int32))) + ((x4 + (1 : Int32)) - (x4 + (1 : Int32)) / (4 : Int32) * (4 : Int32)))) fun v18 => ob (rR S M x0 6 22) fun v20 => ob (aI S M v20 100 ((((x3 - (1 : Int32)) * (576 : Int32)) + ((x4 / (4 : Int32)) * (4 : Int32))) + ((x4 + (3 : Int32)) - (x4 + (3 : Int32)) / (4 : Int32) * (4 : Int32)))) fun v22 => (if v22 ≤ v18 then (fb_X5_laySteps_116 S k11 M x0 x1 x2 x3 x4 v22) else (fb_X5_laySteps_116 S k11 M x0 x1 x2 x3 x4 v18)))
theorem b_X5_laySteps_40 {M' : mMm} (X : mCx D n0 P p m c cX5_laySteps 8 s args yX5_laySteps.cls meth none) (k11 : mMm → Nat → Int32 → Int32 → Int32 → Int32 → Option mMm) (hk11 : ∀ (M : mMm) (x0 : Nat) (x1 : Int32) (x2 : Int32) (x3 : Int32) (x4 : Int32) (H : Heap) (locs : List Loc) (ls : Array Slot), mHp D n0 S M n s H locs → lv_has ls 8 [(0, .ref x0), (1, .int x1), (2, .int x2), (3, .int x3), (4, .int x4)] → k11 M x0 x1 x2 x3 x4 = some M' → W p l e Rm_X5_laySteps s m args below meth c H locs 0 0 (MQ below (mQ D n0 none S M' n) args s 0 0 (mA n0)) (F0 m 11 ls [])) : ∀ (M : mMm) (x0 : Nat) (x1 : Int32) (x2 : Int32) (x3 : Int32) (x4 : Int32) (y0 : Int32) (H : Heap) (locs : List Loc) (ls : Array Slot), mHp D n0 S M n s H locs → lv_has ls 8 [(0, .ref x0), (1, .int x1), (2, .int x2), (3, .int x3), (4, .int x4)] → fb_X5_laySteps_40 S k11 M x0 x1 x2 x3 x4 y0 = some M' → W p l e Rm_X5_laySteps s m args below meth c H locs 0 0 (MQ below (mQ D n0 none S M' n) args s 0 0 (mA n0)) (F0 m 40 ls [.int y0]) := by
  have hx := X.1.1
  have hb := X.1.2.1
  have hown := X.1.2.2.2.1
  have hts := X.1.2.2.2.2
  intro M x0 x1 x2 x3 x4 y0 H locs ls hp hl hF
  unfold fb_X5_laySteps_40 at hF
  refine lv_istore (lv' := [(5, .int y0), (0, .ref x0), (1, .int x1), (2, .int x2), (3, .int x3), (4, .int x4)]) hx hb dX5_laySteps_40 hl (by decide) rfl (fun ls hl => ?_)
  refine lv_iload_n hx hb dX5_laySteps_42 rfl (lv_at hl 4 rfl) ?_
  refine lv_if_le (tgt := 118) hx hb dX5_laySteps_43 (by decide) (fun c15 => ?_) (fun c15 => ?_)
  · have hF := if_p c15 hF
    exact b_X5_laySteps_118 X _ hk11 _ _ _ _ _ _ _ _ _ _ hp (lv_sub hl [1, 2, 3, 4, 5, 0] rfl) hF
  · have hF := if_n c15 hF
    refine lv_aload_n hx hb dX5_laySteps_46 rfl (lv_at hl 1 rfl) ?_
    obtain ⟨v16, e17, hF⟩ := ob_s hF
    refine m_getR X hp e17 kX5 (Nat.le_of_ble_eq_true rfl) q1481 dX5_laySteps_47 ?_
    refine lv_iload_n hx hb dX5_laySteps_50 rfl (lv_at hl 4 rfl) ?_
    refine lv_iconst (v := 1) hx hb dX5_laySteps_51 (by decide) ?_
    refine lv_isub hx hb dX5_laySteps_52 ?_
    refine lv_sipush (v := 576) hx hb dX5_laySteps_53 (by decide) ?_
    refine lv_imul hx hb dX5_laySteps_56 ?_
    refine lv_iload hx hb dX5_laySteps_57 (lv_at hl 5 rfl) ?_
    refine lv_iconst (v := 4) hx hb dX5_laySteps_59 (by decide) ?_
    refine lv_idiv hx hb dX5_laySteps_60 (by decide) ?_
    refine lv_iconst (v := 4) hx hb dX5_laySteps_61 (by decide) ?_
    refine lv_imul hx hb dX5_laySteps_62 ?_
    refine lv_iadd hx hb dX5_laySteps_63 ?_
    refine lv_iload hx hb dX5_laySteps_64 (lv_at hl 5 rfl) ?_
    refine lv_iconst (v := 1) hx hb dX5_laySteps_66 (by decide) ?_
    refine lv_iadd hx hb dX5_laySteps_67 ?_
    refine lv_iconst (v := 4) hx hb dX5_laySteps_68 (by decide) ?_
    refine lv_irem hx hb dX5_laySteps_69 (by decide) ?_
    refine lv_iadd hx hb dX5_laySteps_70 ?_
    obtain ⟨v18, e19, hF⟩ := ob_s hF
    refine m_iaI X hp e19 dX5_laySteps_71 ?_
    refine lv_istore (lv' := [(6, .int v18), (5, .int y0), (0, .ref x0), (1, .int x1), (2, .int x2), (3, .int x3), (4, .int x4)]) hx hb dX5_laySteps_72 hl (by decide) rfl (fun ls hl => ?_)
    refine lv_aload_n hx hb dX5_laySteps_74 rfl (lv_at hl 2 rfl) ?_
    obtain ⟨v20, e21, hF⟩ := ob_s hF
    refine m_getR X hp e21 kX5 (Nat.le_of_ble_eq_true rfl) q1481 dX5_laySteps_75 ?_
    refine lv_iload_n hx hb dX5_laySteps_78 rfl (lv_at hl 5 rfl) ?_
    refine lv_iconst (v := 1) hx hb dX5_laySteps_79 (by decide) ?_
    refine lv_isub hx hb dX5_laySteps_80 ?_
    refine lv_sipush (v := 576) hx hb dX5_laySteps_81 (by decide) ?_
    refine lv_imul hx hb dX5_laySteps_84 ?_
    refine lv_iload hx hb dX5_laySteps_85 (lv_at hl 6 rfl) ?_
    refine lv_iconst (v := 4) hx hb dX5_laySteps_87 (by decide) ?_
    refine lv_idiv hx hb dX5_laySteps_88 (by decide) ?_
    refine lv_iconst (v := 4) hx hb dX5_laySteps_89 (by decide) ?_
    refine lv_imul hx hb dX5_laySteps_90 ?_
    refine lv_iadd hx hb dX5_laySteps_91 ?_
    refine lv_iload hx hb dX5_laySteps_92 (lv_at hl 6 rfl) ?_
    refine lv_iconst (v := 3) hx hb dX5_laySteps_94 (by decide) ?_
    refine lv_iadd hx hb dX5_laySteps_95 ?_
    refine lv_iconst (v := 4) hx hb dX5_laySteps_96 (by decide) ?_
    refine lv_irem hx hb dX5_laySteps_97 (by decide) ?_
    refine lv_iadd hx hb dX5_laySteps_98 ?_
    obtain ⟨v22, e23, hF⟩ := ob_s hF
    refine m_iaI X hp e23 dX5_laySteps_99 ?_
    refine lv_istore (lv' := [(7, .int v22), (6, .int v18), (5, .int y0), (0, .ref x0), (1, .int x1), (2, .int x2), (3, .int x3), (4, .int x4)]) hx hb dX5_laySteps_100 hl (by decide) rfl (fun ls hl => ?_)
    refine lv_iload hx hb dX5_laySteps_102 (lv_at hl 1 rfl) ?_
    refine lv_iload hx hb dX5_laySteps_104 (lv_at hl 0 rfl) ?_
    refine lv_icmp_ge (tgt := 114) hx hb dX5_laySteps_106 (by decide) (fun c24 => ?_) (fun c24 => ?_)
    · have hF := if_p c24 hF
      refine lv_iload hx hb dX5_laySteps_114 (lv_at hl 0 rfl) ?_
      exact b_X5_laySteps_116 X _ hk11 _ _ _ _ _ _ _ _ _ _ hp (lv_sub hl [3, 4, 5, 6, 7] rfl) hF
    · have hF := if_n c24 hF
      refine lv_iload hx hb dX5_laySteps_109 (lv_at hl 1 rfl) ?_
      refine lv_goto (tgt := 116) hx hb dX5_laySteps_111 (by decide) ?_
      exact b_X5_laySteps_116 X _ hk11 _ _ _ _ _ _ _ _ _ _ hp (lv_sub hl [3, 4, 5, 6, 7] rfl) hF
def fb_X5_laySteps_11 (S : mSh) (k2 : mMm → Nat → Int32 → Int32 → Int32 → Option mMm) : Nat → mMm → Nat → Int32 → Int32 → Int32 → Int32 → Option mMm
  | 0, _, _, _, _, _, _ => none
  | t + 1, M, x0, x1, x2, x3, x4 => (if (576 : Int32) ≤ x4 then gd ((S x0).1 = 6) (ob (f_X5_straightOn S M x0 x3) fun M10 => nm (x3 + (1 : Int32)) fun v11 => (k2 M10 x0 x1 x2 v11)) else (if x3 = 0 then (if x4 = (((4 : Int32) * x1) + x2) then (fb_X5_laySteps_40 S (fb_X5_laySteps_11 S k2 t) M x0 x1 x2 x3 x4 (0 : Int32)) else (fb_X5_laySteps_40 S (fb_X5_laySteps_11 S k2 t) M x0 x1 x2 x3 x4 (9999 : Int32))) else (fb_X5_laySteps_40 S (fb_X5_laySteps_11 S k2 t) M x0 x1 x2 x3 x4 (9999 : Int32))))
theorem b_X5_laySteps_11 {M' : mMm} (X : mCx D n0 P p m c cX5_laySteps 8 s args yX5_laySteps.cls meth none) (k2 : mMm → Nat → Int32 → Int32 → Int32 → Option mMm) (hk2 : ∀ (M : mMm) (x0 : Nat) (x1 : Int32) (x2 : Int32) (x3 : Int32) (H : Heap) (locs : List Loc) (ls : Array Slot), mHp D n0 S M n s H locs → lv_has ls 8 [(0, .ref x0), (1, .int x1), (2, .int x2), (3, .int x3)] → k2 M x0 x1 x2 x3 = some M' → W p l e Rm_X5_laySteps s m args below meth c H locs 0 0 (MQ below (mQ D n0 none S M' n) args s 0 0 (mA n0)) (F0 m 2 ls [])) : ∀ t : Nat, ∀ (M : mMm) (x0 : Nat) (x1 : Int32) (x2 : Int32) (x3 : Int32) (x4 : Int32) (H : Heap) (locs : List Loc) (ls : Array Slot), mHp D n0 S M n s H locs → lv_has ls 8 [(0, .ref x0), (1, .int x1), (2, .int x2), (3, .int x3), (4, .int x4)] → fb_X5_laySteps_11 S k2 t M x0 x1 x2 x3 x4 = some M' → W p l e Rm_X5_laySteps s m args below meth c H locs 0 0 (MQ below (mQ D n0 none S M' n) args s 0 0 (mA n0)) (F0 m 11 ls []) := by
  have hx := X.1.1
  have hb := X.1.2.1
  have hown := X.1.2.2.2.1
  have hts := X.1.2.2.2.2
  intro t
  induction t with
  | zero =>
    intro M x0 x1 x2 x3 x4 H locs ls hp hl hF
    have hF : none = some M' := hF
    cases hF
  | succ t ih =>
    intro M x0 x1 x2 x3 x4 H locs ls hp hl hF
    rw [fb_X5_laySteps_11] at hF
    refine lv_iload hx hb dX5_laySteps_11 (lv_at hl 4 rfl) ?_
    refine lv_sipush (v := 576) hx hb dX5_laySteps_13 (by decide) ?_
    refine lv_icmp_ge (tgt := 139) hx hb dX5_laySteps_16 (by decide) (fun c6 => ?_) (fun c6 => ?_)
    · have hF := if_p c6 hF
      refine lv_aload_n hx hb dX5_laySteps_139 rfl (lv_at hl 0 rfl) ?_
      refine lv_iload_n hx hb dX5_laySteps_140 rfl (lv_at hl 3 rfl) ?_
      obtain ⟨g7, hF⟩ := gd_s hF
      obtain ⟨M10, e8, hF⟩ := ob_s hF
      refine m_callV (As := [.int x3]) (rest := []) X hp (w_X5_straightOn e8) q1923 q1925 qs118 q144 q1926 1 rfl ds_X5_straightOn ⟨Nat.le_of_ble_eq_true rfl, Nat.le_of_ble_eq_true rfl⟩ 6 (T := TX5) (N := 40) rfl (by decide) g7 hl.1 rfl (Nat.le_of_ble_eq_true rfl) dX5_laySteps_141 ⟨Nat.le_refl 0, Nat.le_refl 0⟩ (fun H locs hp => ?_)
      obtain ⟨v11, ev12⟩ : ∃ y : Int32, y = x3 + (1 : Int32) := ⟨_, rfl⟩
      have hF := nm_s hF ev12
      refine lv_iinc (v := v11) (lv' := [(3, .int v11), (0, .ref x0), (1, .int x1), (2, .int x2), (4, .int x4)]) hx hb dX5_laySteps_144 hl (k := 3) rfl (by rw [ev12]; rfl) (by decide) rfl (fun ls hl => ?_)
      refine lv_goto (tgt := 2) hx hb dX5_laySteps_147 (by decide) ?_
      exact hk2 _ _ _ _ _ _ _ _ hp (lv_sub hl [1, 2, 3, 0] rfl) hF
    · have hF := if_n c6 hF
      refine lv_iload_n hx hb dX5_laySteps_19 rfl (lv_at hl 3 rfl) ?_
      refine lv_if_ne (tgt := 37) hx hb dX5_laySteps_20 (by decide) (fun c13 => ?_) (fun c13 => ?_)
      · have hF := if_n c13 hF
        refine lv_sipush (v := 9999) hx hb dX5_laySteps_37 (by decide) ?_
        exact b_X5_laySteps_40 X _ ih _ _ _ _ _ _ _ _ _ _ hp (lv_sub hl [0, 1, 2, 3, 4] rfl) hF
      · have hF := if_p c13 hF
        refine lv_iload hx hb dX5_laySteps_23 (lv_at hl 4 rfl) ?_
        refine lv_iconst (v := 4) hx hb dX5_laySteps_25 (by decide) ?_
        refine lv_iload_n hx hb dX5_laySteps_26 rfl (lv_at hl 1 rfl) ?_
        refine lv_imul hx hb dX5_laySteps_27 ?_
        refine lv_iload_n hx hb dX5_laySteps_28 rfl (lv_at hl 2 rfl) ?_
        refine lv_iadd hx hb dX5_laySteps_29 ?_
        refine lv_icmp_ne (tgt := 37) hx hb dX5_laySteps_30 (by decide) (fun c14 => ?_) (fun c14 => ?_)
        · have hF := if_n c14 hF
          refine lv_sipush (v := 9999) hx hb dX5_laySteps_37 (by decide) ?_
          exact b_X5_laySteps_40 X _ ih _ _ _ _ _ _ _ _ _ _ hp (lv_sub hl [0, 1, 2, 3, 4] rfl) hF
        · have hF := if_p c14 hF
          refine lv_iconst (v := 0) hx hb dX5_laySteps_33 (by decide) ?_
          refine lv_goto (tgt := 40) hx hb dX5_laySteps_34 (by decide) ?_
          exact b_X5_laySteps_40 X _ ih _ _ _ _ _ _ _ _ _ _ hp (lv_sub hl [0, 1, 2, 3, 4] rfl) hF
def fb_X5_laySteps_2 (S : mSh) : Nat → mMm → Nat → Int32 → Int32 → Int32 → Option mMm
  | 0, _, _, _, _, _ => none
  | t + 1, M, x0, x1, x2, x3 => (if (7 : Int32) ≤ x3 then some M else nm ((0 : Int32)) fun v4 => (fb_X5_laySteps_11 S (fb_X5_laySteps_2 S t) FU M x0 x1 x2 x3 v4))
theorem b_X5_laySteps_2 {M' : mMm} (X : mCx D n0 P p m c cX5_laySteps 8 s args yX5_laySteps.cls meth none) : ∀ t : Nat, ∀ (M : mMm) (x0 : Nat) (x1 : Int32) (x2 : Int32) (x3 : Int32) (H : Heap) (locs : List Loc) (ls : Array Slot), mHp D n0 S M n s H locs → lv_has ls 8 [(0, .ref x0), (1, .int x1), (2, .int x2), (3, .int x3)] → fb_X5_laySteps_2 S t M x0 x1 x2 x3 = some M' → W p l e Rm_X5_laySteps s m args below meth c H locs 0 0 (MQ below (mQ D n0 none S M' n) args s 0 0 (mA n0)) (F0 m 2 ls []) := by
  have hx := X.1.1
  have hb := X.1.2.1
  have hown := X.1.2.2.2.1
  have hts := X.1.2.2.2.2
  intro t
  induction t with
  | zero =>
    intro M x0 x1 x2 x3 H locs ls hp hl hF
    have hF : none = some M' := hF
    cases hF
  | succ t ih =>
    intro M x0 x1 x2 x3 H locs ls hp hl hF
    rw [fb_X5_laySteps_2] at hF
    refine lv_iload_n hx hb dX5_laySteps_2 rfl (lv_at hl 3 rfl) ?_
    refine lv_bipush (v := 7) hx hb dX5_laySteps_3 (by decide) ?_
    refine lv_icmp_ge (tgt := 150) hx hb dX5_laySteps_5 (by decide) (fun c3 => ?_) (fun c3 => ?_)
    · have hF := if_p c3 hF
      cases hF
      exact m_vret X hp dX5_laySteps_150
    · have hF := if_n c3 hF
      refine lv_iconst (v := 0) hx hb dX5_laySteps_8 (by decide) ?_
      refine lv_topi (fun v4 ev5 => ?_)
      have hF := nm_s hF ev5
      refine lv_istore (lv' := [(4, .int v4), (0, .ref x0), (1, .int x1), (2, .int x2), (3, .int x3)]) hx hb dX5_laySteps_9 hl (by decide) rfl (fun ls hl => ?_)
      exact b_X5_laySteps_11 X _ ih _ _ _ _ _ _ _ _ _ _ hp (lv_sub hl [1, 2, 3, 4, 0] rfl) hF
def f_X5_laySteps (S : mSh) (M : mMm) (x0 : Nat) (x1 : Int32) (x2 : Int32) : Option mMm := nm ((0 : Int32)) fun v1 => (fb_X5_laySteps_2 S FU M x0 x1 x2 v1)
theorem w_X5_laySteps {x0 : Nat} {x1 : Int32} {x2 : Int32} {M' : mMm} (hF : f_X5_laySteps S M x0 x1 x2 = some M') : mCt l D n0 P yX5_laySteps cX5_laySteps 8 none 4 93 0 0 [.ref x0, .int x1, .int x2] S M n none S M' n := by
  refine m_ofW (by decide) (Nat.le_of_ble_eq_true rfl) (fun p e s m below meth c X hnm hp ls hl => ?_)
  have hx := X.1.1
  have hb := X.1.2.1
  have hown := X.1.2.2.2.1
  have hts := X.1.2.2.2.2
  have hl : lv_has ls 8 [(0, .ref x0), (1, .int x1), (2, .int x2)] := hl
  unfold f_X5_laySteps at hF
  refine lv_iconst (v := 0) hx hb dX5_laySteps_0 (by decide) ?_
  refine lv_topi (fun v1 ev2 => ?_)
  have hF := nm_s hF ev2
  refine lv_istore_n (lv' := [(3, .int v1), (0, .ref x0), (1, .int x1), (2, .int x2)]) hx hb dX5_laySteps_1 rfl hl (by decide) rfl (fun ls hl => ?_)
  exact b_X5_laySteps_2 X _ _ _ _ _ _ _ _ _ hp (lv_sub hl [1, 2, 3, 0] rfl) hF
end
section
variable {l : Launch} {D : va_G} {n0 : Nat} {P : mP} {S : mSh} {M : mMm} {n : Nat} {p : Program} {e : Env} {s : State} {m : MethodId} {args : Array Value} {below : List Frame} {meth : Method} {c : Code}
abbrev Rm_X5_far : Room := { frames := 5, cells := 0, slots := 0, locals := 120 }
def fb_X5_far_127 (S : mSh) (k67 : mMm → Nat → Int32 → Int32 → Int32 → Int32 → Option (Int32 × mMm)) (M : mMm) (x0 : Nat) (x3 : Int32) (x4 : Int32) (x6 : Int32) (y0 : Int32) : Option (Int32 × mMm) := nm (x6 + (1 : Int32)) fun v37 => (k67 M x0 x3 x4 y0 v37)
theorem b_X5_far_127 {r : Int32} {M' : mMm} (X : mCx D n0 P p m c cX5_far 8 s args yX5_far.cls meth (some .int)) (k67 : mMm → Nat → Int32 → Int32 → Int32 → Int32 → Option (Int32 × mMm)) (hk67 : ∀ (M : mMm) (x0 : Nat) (x3 : Int32) (x4 : Int32) (x5 : Int32) (x6 : Int32) (H : Heap) (locs : List Loc) (ls : Array Slot), mHp D n0 S M n s H locs → lv_has ls 8 [(0, .ref x0), (3, .int x3), (4, .int x4), (5, .int x5), (6, .int x6)] → k67 M x0 x3 x4 x5 x6 = some (r, M') → W p l e Rm_X5_far s m args below meth c H locs 0 0 (MQ below (mQ D n0 (some (.int r)) S M' n) args s 0 0 (mA n0)) (F0 m 67 ls [])) : ∀ (M : mMm) (x0 : Nat) (x3 : Int32) (x4 : Int32) (x6 : Int32) (y0 : Int32) (H : Heap) (locs : List Loc) (ls : Array Slot), mHp D n0 S M n s H locs → lv_has ls 8 [(0, .ref x0), (3, .int x3), (4, .int x4), (6, .int x6)] → fb_X5_far_127 S k67 M x0 x3 x4 x6 y0 = some (r, M') → W p l e Rm_X5_far s m args below meth c H locs 0 0 (MQ below (mQ D n0 (some (.int r)) S M' n) args s 0 0 (mA n0)) (F0 m 127 ls [.int y0]) := by
  have hx := X.1.1
  have hb := X.1.2.1
  have hown := X.1.2.2.2.1
  have hts := X.1.2.2.2.2
  intro M x0 x3 x4 x6 y0 H locs ls hp hl hF
  unfold fb_X5_far_127 at hF
  refine lv_istore (lv' := [(5, .int y0), (0, .ref x0), (3, .int x3), (4, .int x4), (6, .int x6)]) hx hb dX5_far_127 hl (by decide) rfl (fun ls hl => ?_)
  obtain ⟨v37, ev38⟩ : ∃ y : Int32, y = x6 + (1 : Int32) := ⟨_, rfl⟩
  have hF := nm_s hF ev38
  refine lv_iinc (v := v37) (lv' := [(6, .int v37), (5, .int y0), (0, .ref x0), (3, .int x3), (4, .int x4)]) hx hb dX5_far_129 hl (k := 4) rfl (by rw [ev38]; rfl) (by decide) rfl (fun ls hl => ?_)
  refine lv_goto (tgt := 67) hx hb dX5_far_132 (by decide) ?_
  exact hk67 _ _ _ _ _ _ _ _ _ hp (lv_sub hl [2, 3, 4, 1, 0] rfl) hF
def fb_X5_far_111 (S : mSh) (k67 : mMm → Nat → Int32 → Int32 → Int32 → Int32 → Option (Int32 × mMm)) (M : mMm) (x0 : Nat) (x3 : Int32) (x4 : Int32) (x5 : Int32) (x6 : Int32) (y0 : Int32) : Option (Int32 × mMm) := (if x5 ≤ y0 then (fb_X5_far_127 S k67 M x0 x3 x4 x6 x5) else (fb_X5_far_127 S k67 M x0 x3 x4 x6 y0))
theorem b_X5_far_111 {r : Int32} {M' : mMm} (X : mCx D n0 P p m c cX5_far 8 s args yX5_far.cls meth (some .int)) (k67 : mMm → Nat → Int32 → Int32 → Int32 → Int32 → Option (Int32 × mMm)) (hk67 : ∀ (M : mMm) (x0 : Nat) (x3 : Int32) (x4 : Int32) (x5 : Int32) (x6 : Int32) (H : Heap) (locs : List Loc) (ls : Array Slot), mHp D n0 S M n s H locs → lv_has ls 8 [(0, .ref x0), (3, .int x3), (4, .int x4), (5, .int x5), (6, .int x6)] → k67 M x0 x3 x4 x5 x6 = some (r, M') → W p l e Rm_X5_far s m args below meth c H locs 0 0 (MQ below (mQ D n0 (some (.int r)) S M' n) args s 0 0 (mA n0)) (F0 m 67 ls [])) : ∀ (M : mMm) (x0 : Nat) (x3 : Int32) (x4 : Int32) (x5 : Int32) (x6 : Int32) (y0 : Int32) (H : Heap) (locs : List Loc) (ls : Array Slot), mHp D n0 S M n s H locs → lv_has ls 8 [(0, .ref x0), (3, .int x3), (4, .int x4), (5, .int x5), (6, .int x6)] → fb_X5_far_111 S k67 M x0 x3 x4 x5 x6 y0 = some (r, M') → W p l e Rm_X5_far s m args below meth c H locs 0 0 (MQ below (mQ D n0 (some (.int r)) S M' n) args s 0 0 (mA n0)) (F0 m 111 ls [.int y0]) := by
  have hx := X.1.1
  have hb := X.1.2.1
  have hown := X.1.2.2.2.1
  have hts := X.1.2.2.2.2
  intro M x0 x3 x4 x5 x6 y0 H locs ls hp hl hF
  unfold fb_X5_far_111 at hF
  refine lv_istore (lv' := [(7, .int y0), (0, .ref x0), (3, .int x3), (4, .int x4), (5, .int x5), (6, .int x6)]) hx hb dX5_far_111 hl (by decide) rfl (fun ls hl => ?_)
  refine lv_iload hx hb dX5_far_113 (lv_at hl 0 rfl) ?_
  refine lv_iload hx hb dX5_far_115 (lv_at hl 4 rfl) ?_
  refine lv_icmp_ge (tgt := 125) hx hb dX5_far_117 (by decide) (fun c36 => ?_) (fun c36 => ?_)
  · have hF := if_p c36 hF
    refine lv_iload hx hb dX5_far_125 (lv_at hl 4 rfl) ?_
    exact b_X5_far_127 X _ hk67 _ _ _ _ _ _ _ _ _ hp (lv_sub hl [1, 2, 3, 5] rfl) hF
  · have hF := if_n c36 hF
    refine lv_iload hx hb dX5_far_120 (lv_at hl 0 rfl) ?_
    refine lv_goto (tgt := 127) hx hb dX5_far_122 (by decide) ?_
    exact b_X5_far_127 X _ hk67 _ _ _ _ _ _ _ _ _ hp (lv_sub hl [1, 2, 3, 5] rfl) hF
def fb_X5_far_67 (S : mSh) : Nat → mMm → Nat → Int32 → Int32 → Int32 → Int32 → Option (Int32 × mMm)
  | 0, _, _, _, _, _, _ => none
  | t + 1, M, x0, x3, x4, x5, x6 => (if (4 : Int32) ≤ x6 then (if x5 = (9999 : Int32) then some ((-1 : Int32), M) else some (x5, M)) else (if x4 = (-1 : Int32) then ob (rR S M x0 6 23) fun v32 => ob (aI S M v32 100 (((4 : Int32) * x3) + x6)) fun v34 => (fb_X5_far_111 S (fb_X5_far_67 S t) M x0 x3 x4 x5 x6 v34) else ob (rR S M x0 6 22) fun v28 => ob (aI S M v28 100 (((x4 * (576 : Int32)) + ((4 : Int32) * x3)) + x6)) fun v30 => (fb_X5_far_111 S (fb_X5_far_67 S t) M x0 x3 x4 x5 x6 v30)))
theorem b_X5_far_67 {r : Int32} {M' : mMm} (X : mCx D n0 P p m c cX5_far 8 s args yX5_far.cls meth (some .int)) : ∀ t : Nat, ∀ (M : mMm) (x0 : Nat) (x3 : Int32) (x4 : Int32) (x5 : Int32) (x6 : Int32) (H : Heap) (locs : List Loc) (ls : Array Slot), mHp D n0 S M n s H locs → lv_has ls 8 [(0, .ref x0), (3, .int x3), (4, .int x4), (5, .int x5), (6, .int x6)] → fb_X5_far_67 S t M x0 x3 x4 x5 x6 = some (r, M') → W p l e Rm_X5_far s m args below meth c H locs 0 0 (MQ below (mQ D n0 (some (.int r)) S M' n) args s 0 0 (mA n0)) (F0 m 67 ls []) := by
  have hx := X.1.1
  have hb := X.1.2.1
  have hown := X.1.2.2.2.1
  have hts := X.1.2.2.2.2
  intro t
  induction t with
  | zero =>
    intro M x0 x3 x4 x5 x6 H locs ls hp hl hF
    have hF : none = some (r, M') := hF
    cases hF
  | succ t ih =>
    intro M x0 x3 x4 x5 x6 H locs ls hp hl hF
    rw [fb_X5_far_67] at hF
    refine lv_iload hx hb dX5_far_67 (lv_at hl 4 rfl) ?_
    refine lv_iconst (v := 4) hx hb dX5_far_69 (by decide) ?_
    refine lv_icmp_ge (tgt := 135) hx hb dX5_far_70 (by decide) (fun c25 => ?_) (fun c25 => ?_)
    · have hF := if_p c25 hF
      refine lv_iload hx hb dX5_far_135 (lv_at hl 3 rfl) ?_
      refine lv_sipush (v := 9999) hx hb dX5_far_137 (by decide) ?_
      refine lv_icmp_ne (tgt := 147) hx hb dX5_far_140 (by decide) (fun c26 => ?_) (fun c26 => ?_)
      · have hF := if_n c26 hF
        refine lv_iload hx hb dX5_far_147 (lv_at hl 3 rfl) ?_
        cases hF
        exact m_iret X hp dX5_far_149
      · have hF := if_p c26 hF
        refine lv_iconst (v := -1) hx hb dX5_far_143 (by decide) ?_
        refine lv_goto (tgt := 149) hx hb dX5_far_144 (by decide) ?_
        cases hF
        exact m_iret X hp dX5_far_149
    · have hF := if_n c25 hF
      refine lv_iload hx hb dX5_far_73 (lv_at hl 2 rfl) ?_
      refine lv_iconst (v := -1) hx hb dX5_far_75 (by decide) ?_
      refine lv_icmp_ne (tgt := 93) hx hb dX5_far_76 (by decide) (fun c27 => ?_) (fun c27 => ?_)
      · have hF := if_n c27 hF
        refine lv_aload_n hx hb dX5_far_93 rfl (lv_at hl 0 rfl) ?_
        obtain ⟨v28, e29, hF⟩ := ob_s hF
        refine m_getR X hp e29 kX5 (Nat.le_of_ble_eq_true rfl) q1481 dX5_far_94 ?_
        refine lv_iload hx hb dX5_far_97 (lv_at hl 2 rfl) ?_
        refine lv_sipush (v := 576) hx hb dX5_far_99 (by decide) ?_
        refine lv_imul hx hb dX5_far_102 ?_
        refine lv_iconst (v := 4) hx hb dX5_far_103 (by decide) ?_
        refine lv_iload_n hx hb dX5_far_104 rfl (lv_at hl 1 rfl) ?_
        refine lv_imul hx hb dX5_far_105 ?_
        refine lv_iadd hx hb dX5_far_106 ?_
        refine lv_iload hx hb dX5_far_107 (lv_at hl 4 rfl) ?_
        refine lv_iadd hx hb dX5_far_109 ?_
        obtain ⟨v30, e31, hF⟩ := ob_s hF
        refine m_iaI X hp e31 dX5_far_110 ?_
        exact b_X5_far_111 X _ ih _ _ _ _ _ _ _ _ _ _ hp (lv_sub hl [0, 1, 2, 3, 4] rfl) hF
      · have hF := if_p c27 hF
        refine lv_aload_n hx hb dX5_far_79 rfl (lv_at hl 0 rfl) ?_
        obtain ⟨v32, e33, hF⟩ := ob_s hF
        refine m_getR X hp e33 kX5 (Nat.le_of_ble_eq_true rfl) q1482 dX5_far_80 ?_
        refine lv_iconst (v := 4) hx hb dX5_far_83 (by decide) ?_
        refine lv_iload_n hx hb dX5_far_84 rfl (lv_at hl 1 rfl) ?_
        refine lv_imul hx hb dX5_far_85 ?_
        refine lv_iload hx hb dX5_far_86 (lv_at hl 4 rfl) ?_
        refine lv_iadd hx hb dX5_far_88 ?_
        obtain ⟨v34, e35, hF⟩ := ob_s hF
        refine m_iaI X hp e35 dX5_far_89 ?_
        refine lv_goto (tgt := 111) hx hb dX5_far_90 (by decide) ?_
        exact b_X5_far_111 X _ ih _ _ _ _ _ _ _ _ _ _ hp (lv_sub hl [0, 1, 2, 3, 4] rfl) hF
def fb_X5_far_59 (S : mSh) (M : mMm) (x0 : Nat) (x3 : Int32) (x4 : Int32) : Option (Int32 × mMm) := nm ((9999 : Int32)) fun v21 => nm ((0 : Int32)) fun v23 => (fb_X5_far_67 S FU M x0 x3 x4 v21 v23)
theorem b_X5_far_59 {r : Int32} {M' : mMm} (X : mCx D n0 P p m c cX5_far 8 s args yX5_far.cls meth (some .int)) : ∀ (M : mMm) (x0 : Nat) (x3 : Int32) (x4 : Int32) (H : Heap) (locs : List Loc) (ls : Array Slot), mHp D n0 S M n s H locs → lv_has ls 8 [(0, .ref x0), (3, .int x3), (4, .int x4)] → fb_X5_far_59 S M x0 x3 x4 = some (r, M') → W p l e Rm_X5_far s m args below meth c H locs 0 0 (MQ below (mQ D n0 (some (.int r)) S M' n) args s 0 0 (mA n0)) (F0 m 59 ls []) := by
  have hx := X.1.1
  have hb := X.1.2.1
  have hown := X.1.2.2.2.1
  have hts := X.1.2.2.2.2
  intro M x0 x3 x4 H locs ls hp hl hF
  unfold fb_X5_far_59 at hF
  refine lv_sipush (v := 9999) hx hb dX5_far_59 (by decide) ?_
  refine lv_topi (fun v21 ev22 => ?_)
  have hF := nm_s hF ev22
  refine lv_istore (lv' := [(5, .int v21), (0, .ref x0), (3, .int x3), (4, .int x4)]) hx hb dX5_far_62 hl (by decide) rfl (fun ls hl => ?_)
  refine lv_iconst (v := 0) hx hb dX5_far_64 (by decide) ?_
  refine lv_topi (fun v23 ev24 => ?_)
  have hF := nm_s hF ev24
  refine lv_istore (lv' := [(6, .int v23), (5, .int v21), (0, .ref x0), (3, .int x3), (4, .int x4)]) hx hb dX5_far_65 hl (by decide) rfl (fun ls hl => ?_)
  exact b_X5_far_67 X _ _ _ _ _ _ _ _ _ _ hp (lv_sub hl [2, 3, 4, 1, 0] rfl) hF
def f_X5_far (S : mSh) (M : mMm) (x0 : Nat) (x1 : Int32) (x2 : Int32) (x3 : Int32) (x4 : Int32) : Option (Int32 × mMm) := gd ((S x0).1 = 6) (ob (f_X5_isGround S M x0 x1) fun v3 => (if v3 = 0 then some ((-1 : Int32), M) else ob (f_X5_isGround S M x0 x3) fun v6 => (if v6 = 0 then some ((-1 : Int32), M) else ob (f_X5_within x2 (0 : Int32) (3 : Int32)) fun v9 => (if v9 = 0 then some ((-1 : Int32), M) else ob (f_X5_within x4 (-1 : Int32) (6 : Int32)) fun v12 => (if v12 = 0 then some ((-1 : Int32), M) else (if x4 = (-1 : Int32) then ob (f_X5_layFar S M x0 x1 x2) fun M20 => (fb_X5_far_59 S M20 x0 x3 x4) else ob (f_X5_laySteps S M x0 x1 x2) fun M17 => (fb_X5_far_59 S M17 x0 x3 x4)))))))
theorem w_X5_far {x0 : Nat} {x1 : Int32} {x2 : Int32} {x3 : Int32} {x4 : Int32} {r : Int32} {M' : mMm} (hF : f_X5_far S M x0 x1 x2 x3 x4 = some (r, M')) : mCt l D n0 P yX5_far cX5_far 8 (some .int) 5 120 0 0 [.ref x0, .int x1, .int x2, .int x3, .int x4] S M n (some (.int r)) S M' n := by
  refine m_ofW (by decide) (Nat.le_of_ble_eq_true rfl) (fun p e s m below meth c X hnm hp ls hl => ?_)
  have hx := X.1.1
  have hb := X.1.2.1
  have hown := X.1.2.2.2.1
  have hts := X.1.2.2.2.2
  have hl : lv_has ls 8 [(0, .ref x0), (1, .int x1), (2, .int x2), (3, .int x3), (4, .int x4)] := hl
  unfold f_X5_far at hF
  refine lv_aload_n hx hb dX5_far_0 rfl (lv_at hl 0 rfl) ?_
  refine lv_iload_n hx hb dX5_far_1 rfl (lv_at hl 1 rfl) ?_
  obtain ⟨g1, hF⟩ := gd_s hF
  obtain ⟨v3, e2, hF⟩ := ob_s hF
  refine m_callV (As := [.int x1]) (rest := []) X hp (w_X5_isGround e2) q1907 q1909 qs114 q144 q1910 1 rfl ds_X5_isGround ⟨Nat.le_of_ble_eq_true rfl, Nat.le_of_ble_eq_true rfl⟩ 6 (T := TX5) (N := 40) rfl (by decide) g1 hl.1 rfl (Nat.le_of_ble_eq_true rfl) dX5_far_2 ⟨Nat.le_refl 0, Nat.le_refl 0⟩ (fun H locs hp => ?_)
  refine lv_if_eq (tgt := 36) hx hb dX5_far_5 (by decide) (fun c4 => ?_) (fun c4 => ?_)
  · have hF := if_p c4 hF
    refine lv_iconst (v := -1) hx hb dX5_far_36 (by decide) ?_
    cases hF
    exact m_iret X hp dX5_far_37
  · have hF := if_n c4 hF
    refine lv_aload_n hx hb dX5_far_8 rfl (lv_at hl 0 rfl) ?_
    refine lv_iload_n hx hb dX5_far_9 rfl (lv_at hl 3 rfl) ?_
    obtain ⟨v6, e5, hF⟩ := ob_s hF
    refine m_callV (As := [.int x3]) (rest := []) X hp (w_X5_isGround e5) q1907 q1909 qs114 q144 q1910 1 rfl ds_X5_isGround ⟨Nat.le_of_ble_eq_true rfl, Nat.le_of_ble_eq_true rfl⟩ 6 (T := TX5) (N := 40) rfl (by decide) g1 hl.1 rfl (Nat.le_of_ble_eq_true rfl) dX5_far_10 ⟨Nat.le_refl 0, Nat.le_refl 0⟩ (fun H locs hp => ?_)
    refine lv_if_eq (tgt := 36) hx hb dX5_far_13 (by decide) (fun c7 => ?_) (fun c7 => ?_)
    · have hF := if_p c7 hF
      refine lv_iconst (v := -1) hx hb dX5_far_36 (by decide) ?_
      cases hF
      exact m_iret X hp dX5_far_37
    · have hF := if_n c7 hF
      refine lv_iload_n hx hb dX5_far_16 rfl (lv_at hl 2 rfl) ?_
      refine lv_iconst (v := 0) hx hb dX5_far_17 (by decide) ?_
      refine lv_iconst (v := 3) hx hb dX5_far_18 (by decide) ?_
      obtain ⟨v9, e8, hF⟩ := ob_s hF
      refine m_callS (As := [.int x2, .int (0 : Int32), .int (3 : Int32)]) (rest := []) X hp (w_X5_within e8) q1588 q1589 q144 q1590 3 rfl ds_X5_within ⟨Nat.le_of_ble_eq_true rfl, Nat.le_of_ble_eq_true rfl⟩ hl.1 rfl (Nat.le_of_ble_eq_true rfl) dX5_far_19 ⟨Nat.le_refl 0, Nat.le_refl 0⟩ (fun H locs hp => ?_)
      refine lv_if_eq (tgt := 36) hx hb dX5_far_22 (by decide) (fun c10 => ?_) (fun c10 => ?_)
      · have hF := if_p c10 hF
        refine lv_iconst (v := -1) hx hb dX5_far_36 (by decide) ?_
        cases hF
        exact m_iret X hp dX5_far_37
      · have hF := if_n c10 hF
        refine lv_iload hx hb dX5_far_25 (lv_at hl 4 rfl) ?_
        refine lv_iconst (v := -1) hx hb dX5_far_27 (by decide) ?_
        refine lv_bipush (v := 6) hx hb dX5_far_28 (by decide) ?_
        obtain ⟨v12, e11, hF⟩ := ob_s hF
        refine m_callS (As := [.int x4, .int (-1 : Int32), .int (6 : Int32)]) (rest := []) X hp (w_X5_within e11) q1588 q1589 q144 q1590 3 rfl ds_X5_within ⟨Nat.le_of_ble_eq_true rfl, Nat.le_of_ble_eq_true rfl⟩ hl.1 rfl (Nat.le_of_ble_eq_true rfl) dX5_far_30 ⟨Nat.le_refl 0, Nat.le_refl 0⟩ (fun H locs hp => ?_)
        refine lv_if_ne (tgt := 38) hx hb dX5_far_33 (by decide) (fun c13 => ?_) (fun c13 => ?_)
        · have hF := if_n c13 hF
          refine lv_iload hx hb dX5_far_38 (lv_at hl 4 rfl) ?_
          refine lv_iconst (v := -1) hx hb dX5_far_40 (by decide) ?_
          refine lv_icmp_ne (tgt := 53) hx hb dX5_far_41 (by decide) (fun c14 => ?_) (fun c14 => ?_)
          · have hF := if_n c14 hF
            refine lv_aload_n hx hb dX5_far_53 rfl (lv_at hl 0 rfl) ?_
            refine lv_iload_n hx hb dX5_far_54 rfl (lv_at hl 1 rfl) ?_
            refine lv_iload_n hx hb dX5_far_55 rfl (lv_at hl 2 rfl) ?_
            obtain ⟨M17, e15, hF⟩ := ob_s hF
            refine m_callV (As := [.int x1, .int x2]) (rest := []) X hp (w_X5_laySteps e15) q1919 q1921 qs117 q144 q1922 2 rfl ds_X5_laySteps ⟨Nat.le_of_ble_eq_true rfl, Nat.le_of_ble_eq_true rfl⟩ 6 (T := TX5) (N := 40) rfl (by decide) g1 hl.1 rfl (Nat.le_of_ble_eq_true rfl) dX5_far_56 ⟨Nat.le_refl 0, Nat.le_refl 0⟩ (fun H locs hp => ?_)
            exact b_X5_far_59 X _ _ _ _ _ _ _ hp (lv_sub hl [0, 3, 4] rfl) hF
          · have hF := if_p c14 hF
            refine lv_aload_n hx hb dX5_far_44 rfl (lv_at hl 0 rfl) ?_
            refine lv_iload_n hx hb dX5_far_45 rfl (lv_at hl 1 rfl) ?_
            refine lv_iload_n hx hb dX5_far_46 rfl (lv_at hl 2 rfl) ?_
            obtain ⟨M20, e18, hF⟩ := ob_s hF
            refine m_callV (As := [.int x1, .int x2]) (rest := []) X hp (w_X5_layFar e18) q1911 q1913 qs115 q144 q1914 2 rfl ds_X5_layFar ⟨Nat.le_of_ble_eq_true rfl, Nat.le_of_ble_eq_true rfl⟩ 6 (T := TX5) (N := 40) rfl (by decide) g1 hl.1 rfl (Nat.le_of_ble_eq_true rfl) dX5_far_47 ⟨Nat.le_refl 0, Nat.le_refl 0⟩ (fun H locs hp => ?_)
            refine lv_goto (tgt := 59) hx hb dX5_far_50 (by decide) ?_
            exact b_X5_far_59 X _ _ _ _ _ _ _ hp (lv_sub hl [0, 3, 4] rfl) hF
        · have hF := if_p c13 hF
          refine lv_iconst (v := -1) hx hb dX5_far_36 (by decide) ?_
          cases hF
          exact m_iret X hp dX5_far_37
end
section
variable {l : Launch} {D : va_G} {n0 : Nat} {P : mP} {S : mSh} {M : mMm} {n : Nat} {p : Program} {e : Env} {s : State} {m : MethodId} {args : Array Value} {below : List Frame} {meth : Method} {c : Code}
abbrev Rm_X5_fault : Room := { frames := 0, cells := 0, slots := 0, locals := 0 }
def f_X5_fault (S : mSh) (M : mMm) (x0 : Nat) (x1 : Int32) : Option Int32 := (if x1 = 0 then ob (rI S M x0 6 13) fun v5 => some v5 else (if x1 = (1 : Int32) then ob (rI S M x0 6 14) fun v3 => some v3 else some (-1 : Int32)))
theorem w_X5_fault {x0 : Nat} {x1 : Int32} {r : Int32} (hF : f_X5_fault S M x0 x1 = some r) : mCt l D n0 P yX5_fault cX5_fault 2 (some .int) 0 0 0 0 [.ref x0, .int x1] S M n (some (.int r)) S M n := by
  refine m_ofW (by decide) (Nat.le_of_ble_eq_true rfl) (fun p e s m below meth c X hnm hp ls hl => ?_)
  have hx := X.1.1
  have hb := X.1.2.1
  have hown := X.1.2.2.2.1
  have hts := X.1.2.2.2.2
  have hl : lv_has ls 2 [(0, .ref x0), (1, .int x1)] := hl
  unfold f_X5_fault at hF
  refine lv_iload_n hx hb dX5_fault_0 rfl (lv_at hl 1 rfl) ?_
  refine lv_if_ne (tgt := 11) hx hb dX5_fault_1 (by decide) (fun c1 => ?_) (fun c1 => ?_)
  · have hF := if_n c1 hF
    refine lv_iload_n hx hb dX5_fault_11 rfl (lv_at hl 1 rfl) ?_
    refine lv_iconst (v := 1) hx hb dX5_fault_12 (by decide) ?_
    refine lv_icmp_ne (tgt := 23) hx hb dX5_fault_13 (by decide) (fun c2 => ?_) (fun c2 => ?_)
    · have hF := if_n c2 hF
      refine lv_iconst (v := -1) hx hb dX5_fault_23 (by decide) ?_
      cases hF
      exact m_iret X hp dX5_fault_24
    · have hF := if_p c2 hF
      refine lv_aload_n hx hb dX5_fault_16 rfl (lv_at hl 0 rfl) ?_
      obtain ⟨v3, e4, hF⟩ := ob_s hF
      refine m_getI X hp e4 kX5 (Nat.le_of_ble_eq_true rfl) q1473 dX5_fault_17 ?_
      refine lv_goto (tgt := 24) hx hb dX5_fault_20 (by decide) ?_
      cases hF
      exact m_iret X hp dX5_fault_24
  · have hF := if_p c1 hF
    refine lv_aload_n hx hb dX5_fault_4 rfl (lv_at hl 0 rfl) ?_
    obtain ⟨v5, e6, hF⟩ := ob_s hF
    refine m_getI X hp e6 kX5 (Nat.le_of_ble_eq_true rfl) q1472 dX5_fault_5 ?_
    refine lv_goto (tgt := 24) hx hb dX5_fault_8 (by decide) ?_
    cases hF
    exact m_iret X hp dX5_fault_24
end
section
variable {l : Launch} {D : va_G} {n0 : Nat} {P : mP} {S : mSh} {M : mMm} {n : Nat} {p : Program} {e : Env} {s : State} {m : MethodId} {args : Array Value} {below : List Frame} {meth : Method} {c : Code}
abbrev Rm_X5_feed : Room := { frames := 0, cells := 0, slots := 0, locals := 0 }
def fb_X5_feed_71 (S : mSh) (k18 : mMm → Nat → Int32 → Int32 → Int32 → Int32 → Int32 → Int32 → Option (Int32 × mMm)) (M : mMm) (x0 : Nat) (x1 : Int32) (x2 : Int32) (x3 : Int32) (x4 : Int32) (x5 : Int32) (x6 : Int32) (y0 : Int32) : Option (Int32 × mMm) := ob (rR S M x0 6 15) fun v13 => ob (rI S M x0 6 7) fun v15 => ob (wA S M v13 100 v15 (.int ((y0 >>> (((24 : Int32) - ((8 : Int32) * (x6 - x6 / (4 : Int32) * (4 : Int32)))) &&& 31)) &&& (255 : Int32)))) fun M17 => ob (rI S M17 x0 6 7) fun v19 => ob (wF S M17 x0 6 7 (.int (v19 + (1 : Int32)))) fun M21 => nm (x6 + (1 : Int32)) fun v23 => (k18 M21 x0 x1 x2 x3 x4 x5 v23)
theorem b_X5_feed_71 {r : Int32} {M' : mMm} (X : mCx D n0 P p m c cX5_feed 8 s args yX5_feed.cls meth (some .int)) (k18 : mMm → Nat → Int32 → Int32 → Int32 → Int32 → Int32 → Int32 → Option (Int32 × mMm)) (hk18 : ∀ (M : mMm) (x0 : Nat) (x1 : Int32) (x2 : Int32) (x3 : Int32) (x4 : Int32) (x5 : Int32) (x6 : Int32) (H : Heap) (locs : List Loc) (ls : Array Slot), mHp D n0 S M n s H locs → lv_has ls 8 [(0, .ref x0), (1, .int x1), (2, .int x2), (3, .int x3), (4, .int x4), (5, .int x5), (6, .int x6)] → k18 M x0 x1 x2 x3 x4 x5 x6 = some (r, M') → W p l e Rm_X5_feed s m args below meth c H locs 0 0 (MQ below (mQ D n0 (some (.int r)) S M' n) args s 0 0 (mA n0)) (F0 m 18 ls [])) : ∀ (M : mMm) (x0 : Nat) (x1 : Int32) (x2 : Int32) (x3 : Int32) (x4 : Int32) (x5 : Int32) (x6 : Int32) (y0 : Int32) (H : Heap) (locs : List Loc) (ls : Array Slot), mHp D n0 S M n s H locs → lv_has ls 8 [(0, .ref x0), (1, .int x1), (2, .int x2), (3, .int x3), (4, .int x4), (5, .int x5), (6, .int x6)] → fb_X5_feed_71 S k18 M x0 x1 x2 x3 x4 x5 x6 y0 = some (r, M') → W p l e Rm_X5_feed s m args below meth c H locs 0 0 (MQ below (mQ D n0 (some (.int r)) S M' n) args s 0 0 (mA n0)) (F0 m 71 ls [.int y0]) := by
  have hx := X.1.1
  have hb := X.1.2.1
  have hown := X.1.2.2.2.1
  have hts := X.1.2.2.2.2
  intro M x0 x1 x2 x3 x4 x5 x6 y0 H locs ls hp hl hF
  unfold fb_X5_feed_71 at hF
  refine lv_istore (lv' := [(7, .int y0), (0, .ref x0), (1, .int x1), (2, .int x2), (3, .int x3), (4, .int x4), (5, .int x5), (6, .int x6)]) hx hb dX5_feed_71 hl (by decide) rfl (fun ls hl => ?_)
  refine lv_aload_n hx hb dX5_feed_73 rfl (lv_at hl 1 rfl) ?_
  obtain ⟨v13, e14, hF⟩ := ob_s hF
  refine m_getR X hp e14 kX5 (Nat.le_of_ble_eq_true rfl) q1474 dX5_feed_74 ?_
  refine lv_aload_n hx hb dX5_feed_77 rfl (lv_at hl 1 rfl) ?_
  obtain ⟨v15, e16, hF⟩ := ob_s hF
  refine m_getI X hp e16 kX5 (Nat.le_of_ble_eq_true rfl) q1466 dX5_feed_78 ?_
  refine lv_iload hx hb dX5_feed_81 (lv_at hl 0 rfl) ?_
  refine lv_bipush (v := 24) hx hb dX5_feed_83 (by decide) ?_
  refine lv_bipush (v := 8) hx hb dX5_feed_85 (by decide) ?_
  refine lv_iload hx hb dX5_feed_87 (lv_at hl 7 rfl) ?_
  refine lv_iconst (v := 4) hx hb dX5_feed_89 (by decide) ?_
  refine lv_irem hx hb dX5_feed_90 (by decide) ?_
  refine lv_imul hx hb dX5_feed_91 ?_
  refine lv_isub hx hb dX5_feed_92 ?_
  refine lv_ishr hx hb dX5_feed_93 ?_
  refine lv_sipush (v := 255) hx hb dX5_feed_94 (by decide) ?_
  refine lv_iand hx hb dX5_feed_97 ?_
  obtain ⟨M17, e18, hF⟩ := ob_s hF
  refine m_iaW X hp e18 dX5_feed_98 (fun H locs hp => ?_)
  refine lv_aload_n hx hb dX5_feed_99 rfl (lv_at hl 1 rfl) ?_
  refine lv_dup hx hb dX5_feed_100 rfl ?_
  obtain ⟨v19, e20, hF⟩ := ob_s hF
  refine m_getI X hp e20 kX5 (Nat.le_of_ble_eq_true rfl) q1466 dX5_feed_101 ?_
  refine lv_iconst (v := 1) hx hb dX5_feed_104 (by decide) ?_
  refine lv_iadd hx hb dX5_feed_105 ?_
  obtain ⟨M21, e22, hF⟩ := ob_s hF
  refine m_putW X hp e22 kX5 (Nat.le_of_ble_eq_true rfl) q1466 rfl rfl rfl dX5_feed_106 (fun H locs hp => ?_)
  obtain ⟨v23, ev24⟩ : ∃ y : Int32, y = x6 + (1 : Int32) := ⟨_, rfl⟩
  have hF := nm_s hF ev24
  refine lv_iinc (v := v23) (lv' := [(6, .int v23), (7, .int y0), (0, .ref x0), (1, .int x1), (2, .int x2), (3, .int x3), (4, .int x4), (5, .int x5)]) hx hb dX5_feed_109 hl (k := 7) rfl (by rw [ev24]; rfl) (by decide) rfl (fun ls hl => ?_)
  refine lv_goto (tgt := 18) hx hb dX5_feed_112 (by decide) ?_
  exact hk18 _ _ _ _ _ _ _ _ _ _ _ hp (lv_sub hl [2, 3, 4, 5, 6, 7, 0] rfl) hF
def fb_X5_feed_18 (S : mSh) : Nat → mMm → Nat → Int32 → Int32 → Int32 → Int32 → Int32 → Int32 → Option (Int32 × mMm)
  | 0, _, _, _, _, _, _, _, _ => none
  | t + 1, M, x0, x1, x2, x3, x4, x5, x6 => (if (20 : Int32) ≤ x6 then ob (rI S M x0 6 7) fun v7 => some (v7, M) else (if (4 : Int32) ≤ x6 then (if (8 : Int32) ≤ x6 then (if (12 : Int32) ≤ x6 then (if (16 : Int32) ≤ x6 then (fb_X5_feed_71 S (fb_X5_feed_18 S t) M x0 x1 x2 x3 x4 x5 x6 x5) else (fb_X5_feed_71 S (fb_X5_feed_18 S t) M x0 x1 x2 x3 x4 x5 x6 x4)) else (fb_X5_feed_71 S (fb_X5_feed_18 S t) M x0 x1 x2 x3 x4 x5 x6 x3)) else (fb_X5_feed_71 S (fb_X5_feed_18 S t) M x0 x1 x2 x3 x4 x5 x6 x2)) else (fb_X5_feed_71 S (fb_X5_feed_18 S t) M x0 x1 x2 x3 x4 x5 x6 x1)))
theorem b_X5_feed_18 {r : Int32} {M' : mMm} (X : mCx D n0 P p m c cX5_feed 8 s args yX5_feed.cls meth (some .int)) : ∀ t : Nat, ∀ (M : mMm) (x0 : Nat) (x1 : Int32) (x2 : Int32) (x3 : Int32) (x4 : Int32) (x5 : Int32) (x6 : Int32) (H : Heap) (locs : List Loc) (ls : Array Slot), mHp D n0 S M n s H locs → lv_has ls 8 [(0, .ref x0), (1, .int x1), (2, .int x2), (3, .int x3), (4, .int x4), (5, .int x5), (6, .int x6)] → fb_X5_feed_18 S t M x0 x1 x2 x3 x4 x5 x6 = some (r, M') → W p l e Rm_X5_feed s m args below meth c H locs 0 0 (MQ below (mQ D n0 (some (.int r)) S M' n) args s 0 0 (mA n0)) (F0 m 18 ls []) := by
  have hx := X.1.1
  have hb := X.1.2.1
  have hown := X.1.2.2.2.1
  have hts := X.1.2.2.2.2
  intro t
  induction t with
  | zero =>
    intro M x0 x1 x2 x3 x4 x5 x6 H locs ls hp hl hF
    have hF : none = some (r, M') := hF
    cases hF
  | succ t ih =>
    intro M x0 x1 x2 x3 x4 x5 x6 H locs ls hp hl hF
    rw [fb_X5_feed_18] at hF
    refine lv_iload hx hb dX5_feed_18 (lv_at hl 6 rfl) ?_
    refine lv_bipush (v := 20) hx hb dX5_feed_20 (by decide) ?_
    refine lv_icmp_ge (tgt := 115) hx hb dX5_feed_22 (by decide) (fun c6 => ?_) (fun c6 => ?_)
    · have hF := if_p c6 hF
      refine lv_aload_n hx hb dX5_feed_115 rfl (lv_at hl 0 rfl) ?_
      obtain ⟨v7, e8, hF⟩ := ob_s hF
      refine m_getI X hp e8 kX5 (Nat.le_of_ble_eq_true rfl) q1466 dX5_feed_116 ?_
      cases hF
      exact m_iret X hp dX5_feed_119
    · have hF := if_n c6 hF
      refine lv_iload hx hb dX5_feed_25 (lv_at hl 6 rfl) ?_
      refine lv_iconst (v := 4) hx hb dX5_feed_27 (by decide) ?_
      refine lv_icmp_ge (tgt := 35) hx hb dX5_feed_28 (by decide) (fun c9 => ?_) (fun c9 => ?_)
      · have hF := if_p c9 hF
        refine lv_iload hx hb dX5_feed_35 (lv_at hl 6 rfl) ?_
        refine lv_bipush (v := 8) hx hb dX5_feed_37 (by decide) ?_
        refine lv_icmp_ge (tgt := 46) hx hb dX5_feed_39 (by decide) (fun c10 => ?_) (fun c10 => ?_)
        · have hF := if_p c10 hF
          refine lv_iload hx hb dX5_feed_46 (lv_at hl 6 rfl) ?_
          refine lv_bipush (v := 12) hx hb dX5_feed_48 (by decide) ?_
          refine lv_icmp_ge (tgt := 57) hx hb dX5_feed_50 (by decide) (fun c11 => ?_) (fun c11 => ?_)
          · have hF := if_p c11 hF
            refine lv_iload hx hb dX5_feed_57 (lv_at hl 6 rfl) ?_
            refine lv_bipush (v := 16) hx hb dX5_feed_59 (by decide) ?_
            refine lv_icmp_ge (tgt := 69) hx hb dX5_feed_61 (by decide) (fun c12 => ?_) (fun c12 => ?_)
            · have hF := if_p c12 hF
              refine lv_iload hx hb dX5_feed_69 (lv_at hl 5 rfl) ?_
              exact b_X5_feed_71 X _ ih _ _ _ _ _ _ _ _ _ _ _ _ hp (lv_sub hl [0, 1, 2, 3, 4, 5, 6] rfl) hF
            · have hF := if_n c12 hF
              refine lv_iload hx hb dX5_feed_64 (lv_at hl 4 rfl) ?_
              refine lv_goto (tgt := 71) hx hb dX5_feed_66 (by decide) ?_
              exact b_X5_feed_71 X _ ih _ _ _ _ _ _ _ _ _ _ _ _ hp (lv_sub hl [0, 1, 2, 3, 4, 5, 6] rfl) hF
          · have hF := if_n c11 hF
            refine lv_iload_n hx hb dX5_feed_53 rfl (lv_at hl 3 rfl) ?_
            refine lv_goto (tgt := 71) hx hb dX5_feed_54 (by decide) ?_
            exact b_X5_feed_71 X _ ih _ _ _ _ _ _ _ _ _ _ _ _ hp (lv_sub hl [0, 1, 2, 3, 4, 5, 6] rfl) hF
        · have hF := if_n c10 hF
          refine lv_iload_n hx hb dX5_feed_42 rfl (lv_at hl 2 rfl) ?_
          refine lv_goto (tgt := 71) hx hb dX5_feed_43 (by decide) ?_
          exact b_X5_feed_71 X _ ih _ _ _ _ _ _ _ _ _ _ _ _ hp (lv_sub hl [0, 1, 2, 3, 4, 5, 6] rfl) hF
      · have hF := if_n c9 hF
        refine lv_iload_n hx hb dX5_feed_31 rfl (lv_at hl 1 rfl) ?_
        refine lv_goto (tgt := 71) hx hb dX5_feed_32 (by decide) ?_
        exact b_X5_feed_71 X _ ih _ _ _ _ _ _ _ _ _ _ _ _ hp (lv_sub hl [0, 1, 2, 3, 4, 5, 6] rfl) hF
def f_X5_feed (S : mSh) (M : mMm) (x0 : Nat) (x1 : Int32) (x2 : Int32) (x3 : Int32) (x4 : Int32) (x5 : Int32) : Option (Int32 × mMm) := ob (rI S M x0 6 7) fun v1 => (if (v1 + (20 : Int32)) ≤ (400 : Int32) then nm ((0 : Int32)) fun v4 => (fb_X5_feed_18 S FU M x0 x1 x2 x3 x4 x5 v4) else some ((-1 : Int32), M))
theorem w_X5_feed {x0 : Nat} {x1 : Int32} {x2 : Int32} {x3 : Int32} {x4 : Int32} {x5 : Int32} {r : Int32} {M' : mMm} (hF : f_X5_feed S M x0 x1 x2 x3 x4 x5 = some (r, M')) : mCt l D n0 P yX5_feed cX5_feed 8 (some .int) 0 0 0 0 [.ref x0, .int x1, .int x2, .int x3, .int x4, .int x5] S M n (some (.int r)) S M' n := by
  refine m_ofW (by decide) (Nat.le_of_ble_eq_true rfl) (fun p e s m below meth c X hnm hp ls hl => ?_)
  have hx := X.1.1
  have hb := X.1.2.1
  have hown := X.1.2.2.2.1
  have hts := X.1.2.2.2.2
  have hl : lv_has ls 8 [(0, .ref x0), (1, .int x1), (2, .int x2), (3, .int x3), (4, .int x4), (5, .int x5)] := hl
  unfold f_X5_feed at hF
  refine lv_aload_n hx hb dX5_feed_0 rfl (lv_at hl 0 rfl) ?_
  obtain ⟨v1, e2, hF⟩ := ob_s hF
  refine m_getI X hp e2 kX5 (Nat.le_of_ble_eq_true rfl) q1466 dX5_feed_1 ?_
  refine lv_bipush (v := 20) hx hb dX5_feed_4 (by decide) ?_
  refine lv_iadd hx hb dX5_feed_6 ?_
  refine lv_sipush (v := 400) hx hb dX5_feed_7 (by decide) ?_
  refine lv_icmp_le (tgt := 15) hx hb dX5_feed_10 (by decide) (fun c3 => ?_) (fun c3 => ?_)
  · have hF := if_p c3 hF
    refine lv_iconst (v := 0) hx hb dX5_feed_15 (by decide) ?_
    refine lv_topi (fun v4 ev5 => ?_)
    have hF := nm_s hF ev5
    refine lv_istore (lv' := [(6, .int v4), (0, .ref x0), (1, .int x1), (2, .int x2), (3, .int x3), (4, .int x4), (5, .int x5)]) hx hb dX5_feed_16 hl (by decide) rfl (fun ls hl => ?_)
    exact b_X5_feed_18 X _ _ _ _ _ _ _ _ _ _ _ _ hp (lv_sub hl [1, 2, 3, 4, 5, 6, 0] rfl) hF
  · have hF := if_n c3 hF
    refine lv_iconst (v := -1) hx hb dX5_feed_13 (by decide) ?_
    cases hF
    exact m_iret X hp dX5_feed_14
end
