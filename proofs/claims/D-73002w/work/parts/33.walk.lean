set_option maxRecDepth 100000
section
variable {l : Launch} {D : va_G} {n0 : Nat} {P : mP} {S : mSh} {M : mMm} {n : Nat} {p : Program} {e : Env} {s : State} {m : MethodId} {args : Array Value} {below : List Frame} {meth : Method} {c : Code}
abbrev Rm_X0_minutes : Room := { frames := 515, cells := 0, slots := 0, locals := 11841 }
def fb_X0_minutes_31 (S : mSh) : Nat → mMm → Nat → Int32 → Int32 → Int32 → Option (Int32 × mMm)
  | 0, _, _, _, _, _ => none
  | t + 1, M, x0, x1, x2, x3 => (if x1 ≤ x3 then some (x2, M) else gd ((S x0).1 = 1) (ob (f_X0_remembers S M x0) fun ⟨v16, M17⟩ => ob (rR S M17 x0 1 4) fun v18 => gd ((S v18).1 = 2) (ob (f_X1_passes S M17 v18) fun ⟨v22, M23⟩ => nm ((x2 + v22)) fun v24 => nm (x3 + (1 : Int32)) fun v26 => (fb_X0_minutes_31 S t M23 x0 x1 v24 v26))))
theorem b_X0_minutes_31 {r : Int32} {M' : mMm} (X : mCx D n0 P p m c cX0_minutes 4 s args yX0_minutes.cls meth (some .int)) : ∀ t : Nat, ∀ (M : mMm) (x0 : Nat) (x1 : Int32) (x2 : Int32) (x3 : Int32) (H : Heap) (locs : List Loc) (ls : Array Slot), mHp D n0 S M n s H locs → lv_has ls 4 [(0, .ref x0), (1, .int x1), (2, .int x2), (3, .int x3)] → fb_X0_minutes_31 S t M x0 x1 x2 x3 = some (r, M') → W p l e Rm_X0_minutes s m args below meth c H locs 0 0 (MQ below (mQ D n0 (some (.int r)) S M' n) args s 0 0 (mA n0)) (F0 m 31 ls []) := by
  have hx := X.1.1
  have hb := X.1.2.1
  have hown := X.1.2.2.2.1
  have hts := X.1.2.2.2.2
  intro t
  induction t with
  | zero =>
    intro M x0 x1 x2 x3 H locs ls hp hl hF
    have hF : none = some (r, M') := hF
    cases hF
  | succ t ih =>
    intro M x0 x1 x2 x3 H locs ls hp hl hF
    rw [fb_X0_minutes_31] at hF
    refine lv_iload_n hx hb dX0_minutes_31 rfl (lv_at hl 3 rfl) ?_
    refine lv_iload_n hx hb dX0_minutes_32 rfl (lv_at hl 1 rfl) ?_
    refine lv_icmp_ge (tgt := 57) hx hb dX0_minutes_33 (by decide) (fun c13 => ?_) (fun c13 => ?_)
    · have hF := if_p c13 hF
      refine lv_iload_n hx hb dX0_minutes_57 rfl (lv_at hl 2 rfl) ?_
      cases hF
      exact m_iret X hp dX0_minutes_58
    · have hF := if_n c13 hF
      refine lv_aload_n hx hb dX0_minutes_36 rfl (lv_at hl 0 rfl) ?_
      obtain ⟨g14, hF⟩ := gd_s hF
      obtain ⟨⟨v16, M17⟩, e15, hF⟩ := ob_s hF
      refine m_callV (As := []) (rest := []) X hp (w_X0_remembers e15) q1032 q1034 qs31 q132 q1035 0 rfl ds_X0_remembers ⟨Nat.le_of_ble_eq_true rfl, Nat.le_of_ble_eq_true rfl⟩ 1 (T := TX0) (N := 30) rfl (by decide) g14 hl.1 rfl (Nat.le_of_ble_eq_true rfl) dX0_minutes_37 ⟨Nat.le_refl 0, Nat.le_refl 0⟩ (fun H locs hp => ?_)
      refine lv_pop hx hb dX0_minutes_40 rfl ?_
      refine lv_iload_n hx hb dX0_minutes_41 rfl (lv_at hl 2 rfl) ?_
      refine lv_aload_n hx hb dX0_minutes_42 rfl (lv_at hl 0 rfl) ?_
      obtain ⟨v18, e19, hF⟩ := ob_s hF
      refine m_getR X hp e19 kX0 (Nat.le_of_ble_eq_true rfl) q463 dX0_minutes_43 ?_
      obtain ⟨g20, hF⟩ := gd_s hF
      obtain ⟨⟨v22, M23⟩, e21, hF⟩ := ob_s hF
      refine m_callV (As := []) (rest := [.int x2]) X hp (w_X1_passes e21) q1076 q1077 q1078 q133 q1079 0 rfl ds_X1_passes ⟨Nat.le_of_ble_eq_true rfl, Nat.le_of_ble_eq_true rfl⟩ 2 (T := TX1) (N := 19) rfl (by decide) g20 hl.1 rfl (Nat.le_of_ble_eq_true rfl) dX0_minutes_46 ⟨Nat.le_refl 0, Nat.le_refl 0⟩ (fun H locs hp => ?_)
      refine lv_iadd hx hb dX0_minutes_49 ?_
      refine lv_topi (fun v24 ev25 => ?_)
      have hF := nm_s hF ev25
      refine lv_istore_n (lv' := [(2, .int v24), (0, .ref x0), (1, .int x1), (3, .int x3)]) hx hb dX0_minutes_50 rfl hl (by decide) rfl (fun ls hl => ?_)
      obtain ⟨v26, ev27⟩ : ∃ y : Int32, y = x3 + (1 : Int32) := ⟨_, rfl⟩
      have hF := nm_s hF ev27
      refine lv_iinc (v := v26) (lv' := [(3, .int v26), (2, .int v24), (0, .ref x0), (1, .int x1)]) hx hb dX0_minutes_51 hl (k := 3) rfl (by rw [ev27]; rfl) (by decide) rfl (fun ls hl => ?_)
      refine lv_goto (tgt := 31) hx hb dX0_minutes_54 (by decide) ?_
      exact ih _ _ _ _ _ _ _ _ hp (lv_sub hl [2, 3, 1, 0] rfl) hF
def f_X0_minutes (S : mSh) (M : mMm) (x0 : Nat) (x1 : Int32) : Option (Int32 × mMm) := ob (f_X0_isIn x1 (1 : Int32) (60 : Int32)) fun v2 => (if v2 = 0 then some ((-1 : Int32), M) else ob (rR S M x0 1 4) fun v4 => ob (rI S M v4 2 11) fun v6 => (if (v6 + x1) ≤ (9999 : Int32) then nm ((0 : Int32)) fun v9 => nm ((0 : Int32)) fun v11 => (fb_X0_minutes_31 S FU M x0 x1 v9 v11) else some ((-1 : Int32), M)))
theorem w_X0_minutes {x0 : Nat} {x1 : Int32} {r : Int32} {M' : mMm} (hF : f_X0_minutes S M x0 x1 = some (r, M')) : mCt l D n0 P yX0_minutes cX0_minutes 4 (some .int) 515 11841 0 0 [.ref x0, .int x1] S M n (some (.int r)) S M' n := by
  refine m_ofW (by decide) (Nat.le_of_ble_eq_true rfl) (fun p e s m below meth c X hnm hp ls hl => ?_)
  have hx := X.1.1
  have hb := X.1.2.1
  have hown := X.1.2.2.2.1
  have hts := X.1.2.2.2.2
  have hl : lv_has ls 4 [(0, .ref x0), (1, .int x1)] := hl
  unfold f_X0_minutes at hF
  refine lv_iload_n hx hb dX0_minutes_0 rfl (lv_at hl 1 rfl) ?_
  refine lv_iconst (v := 1) hx hb dX0_minutes_1 (by decide) ?_
  refine lv_bipush (v := 60) hx hb dX0_minutes_2 (by decide) ?_
  obtain ⟨v2, e1, hF⟩ := ob_s hF
  refine m_callS (As := [.int x1, .int (1 : Int32), .int (60 : Int32)]) (rest := []) X hp (w_X0_isIn e1) q565 q566 q132 q567 3 rfl ds_X0_isIn ⟨Nat.le_of_ble_eq_true rfl, Nat.le_of_ble_eq_true rfl⟩ hl.1 rfl (Nat.le_of_ble_eq_true rfl) dX0_minutes_4 ⟨Nat.le_refl 0, Nat.le_refl 0⟩ (fun H locs hp => ?_)
  refine lv_if_eq (tgt := 25) hx hb dX0_minutes_7 (by decide) (fun c3 => ?_) (fun c3 => ?_)
  · have hF := if_p c3 hF
    refine lv_iconst (v := -1) hx hb dX0_minutes_25 (by decide) ?_
    cases hF
    exact m_iret X hp dX0_minutes_26
  · have hF := if_n c3 hF
    refine lv_aload_n hx hb dX0_minutes_10 rfl (lv_at hl 0 rfl) ?_
    obtain ⟨v4, e5, hF⟩ := ob_s hF
    refine m_getR X hp e5 kX0 (Nat.le_of_ble_eq_true rfl) q463 dX0_minutes_11 ?_
    obtain ⟨v6, e7, hF⟩ := ob_s hF
    refine m_getIN X hp e7 kX1 (Nat.le_of_ble_eq_true rfl) q399 dX0_minutes_14 ?_
    refine lv_iload_n hx hb dX0_minutes_17 rfl (lv_at hl 1 rfl) ?_
    refine lv_iadd hx hb dX0_minutes_18 ?_
    refine lv_sipush (v := 9999) hx hb dX0_minutes_19 (by decide) ?_
    refine lv_icmp_le (tgt := 27) hx hb dX0_minutes_22 (by decide) (fun c8 => ?_) (fun c8 => ?_)
    · have hF := if_p c8 hF
      refine lv_iconst (v := 0) hx hb dX0_minutes_27 (by decide) ?_
      refine lv_topi (fun v9 ev10 => ?_)
      have hF := nm_s hF ev10
      refine lv_istore_n (lv' := [(2, .int v9), (0, .ref x0), (1, .int x1)]) hx hb dX0_minutes_28 rfl hl (by decide) rfl (fun ls hl => ?_)
      refine lv_iconst (v := 0) hx hb dX0_minutes_29 (by decide) ?_
      refine lv_topi (fun v11 ev12 => ?_)
      have hF := nm_s hF ev12
      refine lv_istore_n (lv' := [(3, .int v11), (2, .int v9), (0, .ref x0), (1, .int x1)]) hx hb dX0_minutes_30 rfl hl (by decide) rfl (fun ls hl => ?_)
      exact b_X0_minutes_31 X _ _ _ _ _ _ _ _ _ hp (lv_sub hl [2, 3, 1, 0] rfl) hF
    · have hF := if_n c8 hF
      refine lv_iconst (v := -1) hx hb dX0_minutes_25 (by decide) ?_
      cases hF
      exact m_iret X hp dX0_minutes_26
end
section
variable {l : Launch} {D : va_G} {n0 : Nat} {P : mP} {S : mSh} {M : mMm} {n : Nat} {p : Program} {e : Env} {s : State} {m : MethodId} {args : Array Value} {below : List Frame} {meth : Method} {c : Code}
abbrev Rm_X0_move : Room := { frames := 1, cells := 0, slots := 0, locals := 22 }
def f_X0_move (S : mSh) (M : mMm) (x0 : Nat) (x1 : Int32) : Option (Int32 × mMm) := (if x1 = (-1 : Int32) then ob (rR S M x0 1 4) fun v13 => ob (rR S M v13 2 5) fun v15 => gd ((S v15).1 = 4) (ob (f_X3_ends S M v15) fun ⟨v19, M20⟩ => some (v19, M20)) else ob (f_X0_isIn x1 (0 : Int32) (2 : Int32)) fun v3 => (if v3 = 0 then some ((-1 : Int32), M) else ob (rR S M x0 1 4) fun v5 => ob (rR S M v5 2 5) fun v7 => gd ((S v7).1 = 4) (ob (f_X3_tells S M v7 x1 (0 : Int32)) fun ⟨v11, M12⟩ => some (v11, M12))))
theorem w_X0_move {x0 : Nat} {x1 : Int32} {r : Int32} {M' : mMm} (hF : f_X0_move S M x0 x1 = some (r, M')) : mCt l D n0 P yX0_move cX0_move 2 (some .int) 1 22 0 0 [.ref x0, .int x1] S M n (some (.int r)) S M' n := by
  refine m_ofW (by decide) (Nat.le_of_ble_eq_true rfl) (fun p e s m below meth c X hnm hp ls hl => ?_)
  have hx := X.1.1
  have hb := X.1.2.1
  have hown := X.1.2.2.2.1
  have hts := X.1.2.2.2.2
  have hl : lv_has ls 2 [(0, .ref x0), (1, .int x1)] := hl
  unfold f_X0_move at hF
  refine lv_iload_n hx hb dX0_move_0 rfl (lv_at hl 1 rfl) ?_
  refine lv_iconst (v := -1) hx hb dX0_move_1 (by decide) ?_
  refine lv_icmp_ne (tgt := 18) hx hb dX0_move_2 (by decide) (fun c1 => ?_) (fun c1 => ?_)
  · have hF := if_n c1 hF
    refine lv_iload_n hx hb dX0_move_18 rfl (lv_at hl 1 rfl) ?_
    refine lv_iconst (v := 0) hx hb dX0_move_19 (by decide) ?_
    refine lv_iconst (v := 2) hx hb dX0_move_20 (by decide) ?_
    obtain ⟨v3, e2, hF⟩ := ob_s hF
    refine m_callS (As := [.int x1, .int (0 : Int32), .int (2 : Int32)]) (rest := []) X hp (w_X0_isIn e2) q565 q566 q132 q567 3 rfl ds_X0_isIn ⟨Nat.le_of_ble_eq_true rfl, Nat.le_of_ble_eq_true rfl⟩ hl.1 rfl (Nat.le_of_ble_eq_true rfl) dX0_move_21 ⟨Nat.le_refl 0, Nat.le_refl 0⟩ (fun H locs hp => ?_)
    refine lv_if_eq (tgt := 42) hx hb dX0_move_24 (by decide) (fun c4 => ?_) (fun c4 => ?_)
    · have hF := if_p c4 hF
      refine lv_iconst (v := -1) hx hb dX0_move_42 (by decide) ?_
      cases hF
      exact m_iret X hp dX0_move_43
    · have hF := if_n c4 hF
      refine lv_aload_n hx hb dX0_move_27 rfl (lv_at hl 0 rfl) ?_
      obtain ⟨v5, e6, hF⟩ := ob_s hF
      refine m_getR X hp e6 kX0 (Nat.le_of_ble_eq_true rfl) q463 dX0_move_28 ?_
      obtain ⟨v7, e8, hF⟩ := ob_s hF
      refine m_getRN X hp e8 kX1 (Nat.le_of_ble_eq_true rfl) q386 dX0_move_31 ?_
      refine lv_iload_n hx hb dX0_move_34 rfl (lv_at hl 1 rfl) ?_
      refine lv_iconst (v := 0) hx hb dX0_move_35 (by decide) ?_
      obtain ⟨g9, hF⟩ := gd_s hF
      obtain ⟨⟨v11, M12⟩, e10, hF⟩ := ob_s hF
      refine m_callV (As := [.int x1, .int (0 : Int32)]) (rest := []) X hp (w_X3_tells e10) q1284 q1285 q1286 q135 q1287 2 rfl ds_X3_tells ⟨Nat.le_of_ble_eq_true rfl, Nat.le_of_ble_eq_true rfl⟩ 4 (T := TX3) (N := 2) rfl (by decide) g9 hl.1 rfl (Nat.le_of_ble_eq_true rfl) dX0_move_36 ⟨Nat.le_refl 0, Nat.le_refl 0⟩ (fun H locs hp => ?_)
      refine lv_goto (tgt := 43) hx hb dX0_move_39 (by decide) ?_
      cases hF
      exact m_iret X hp dX0_move_43
  · have hF := if_p c1 hF
    refine lv_aload_n hx hb dX0_move_5 rfl (lv_at hl 0 rfl) ?_
    obtain ⟨v13, e14, hF⟩ := ob_s hF
    refine m_getR X hp e14 kX0 (Nat.le_of_ble_eq_true rfl) q463 dX0_move_6 ?_
    obtain ⟨v15, e16, hF⟩ := ob_s hF
    refine m_getRN X hp e16 kX1 (Nat.le_of_ble_eq_true rfl) q386 dX0_move_9 ?_
    obtain ⟨g17, hF⟩ := gd_s hF
    obtain ⟨⟨v19, M20⟩, e18, hF⟩ := ob_s hF
    refine m_callV (As := []) (rest := []) X hp (w_X3_ends e18) q1280 q1281 q1282 q135 q1283 0 rfl ds_X3_ends ⟨Nat.le_of_ble_eq_true rfl, Nat.le_of_ble_eq_true rfl⟩ 4 (T := TX3) (N := 2) rfl (by decide) g17 hl.1 rfl (Nat.le_of_ble_eq_true rfl) dX0_move_12 ⟨Nat.le_refl 0, Nat.le_refl 0⟩ (fun H locs hp => ?_)
    refine lv_goto (tgt := 43) hx hb dX0_move_15 (by decide) ?_
    cases hF
    exact m_iret X hp dX0_move_43
end
section
variable {l : Launch} {D : va_G} {n0 : Nat} {P : mP} {S : mSh} {M : mMm} {n : Nat} {p : Program} {e : Env} {s : State} {m : MethodId} {args : Array Value} {below : List Frame} {meth : Method} {c : Code}
abbrev Rm_X0_number : Room := { frames := 2, cells := 0, slots := 0, locals := 45 }
def fb_X0_number_5 (S : mSh) (M : mMm) : Nat → Nat → Int32 → Int32 → Int32 → Int32 → Option Int32
  | 0, _, _, _, _, _ => none
  | t + 1, x0, x1, x2, x3, x4 => ob (rR S M x0 1 4) fun v5 => ob (rR S M v5 2 4) fun v7 => ob (aR S M v7 105 (0 : Int32)) fun v9 => ob (rI S M v9 4 1) fun v11 => (if v11 ≤ x4 then some x3 else ob (f_X0_asBegun S M x0 x4 x1 x2) fun v15 => nm ((((3 : Int32) * x3) + v15)) fun v16 => nm (x4 + (1 : Int32)) fun v18 => (fb_X0_number_5 S M t x0 x1 x2 v16 v18))
theorem b_X0_number_5 {r : Int32} (X : mCx D n0 P p m c cX0_number 5 s args yX0_number.cls meth (some .int)) : ∀ t : Nat, ∀ (x0 : Nat) (x1 : Int32) (x2 : Int32) (x3 : Int32) (x4 : Int32) (H : Heap) (locs : List Loc) (ls : Array Slot), mHp D n0 S M n s H locs → lv_has ls 5 [(0, .ref x0), (1, .int x1), (2, .int x2), (3, .int x3), (4, .int x4)] → fb_X0_number_5 S M t x0 x1 x2 x3 x4 = some r → W p l e Rm_X0_number s m args below meth c H locs 0 0 (MQ below (mQ D n0 (some (.int r)) S M n) args s 0 0 (mA n0)) (F0 m 5 ls []) := by
  have hx := X.1.1
  have hb := X.1.2.1
  have hown := X.1.2.2.2.1
  have hts := X.1.2.2.2.2
  intro t
  induction t with
  | zero =>
    intro x0 x1 x2 x3 x4 H locs ls hp hl hF
    have hF : none = some r := hF
    cases hF
  | succ t ih =>
    intro x0 x1 x2 x3 x4 H locs ls hp hl hF
    rw [fb_X0_number_5] at hF
    refine lv_iload hx hb dX0_number_5 (lv_at hl 4 rfl) ?_
    refine lv_aload_n hx hb dX0_number_7 rfl (lv_at hl 0 rfl) ?_
    obtain ⟨v5, e6, hF⟩ := ob_s hF
    refine m_getR X hp e6 kX0 (Nat.le_of_ble_eq_true rfl) q463 dX0_number_8 ?_
    obtain ⟨v7, e8, hF⟩ := ob_s hF
    refine m_getRN X hp e8 kX1 (Nat.le_of_ble_eq_true rfl) q384 dX0_number_11 ?_
    refine lv_iconst (v := 0) hx hb dX0_number_14 (by decide) ?_
    obtain ⟨v9, e10, hF⟩ := ob_s hF
    refine m_aaR 105 X hp e10 rfl (by decide) rfl dX0_number_15 ?_
    obtain ⟨v11, e12, hF⟩ := ob_s hF
    refine m_getIN X hp e12 kX3 (Nat.le_of_ble_eq_true rfl) q214 dX0_number_16 ?_
    refine lv_icmp_ge (tgt := 41) hx hb dX0_number_19 (by decide) (fun c13 => ?_) (fun c13 => ?_)
    · have hF := if_p c13 hF
      refine lv_iload_n hx hb dX0_number_41 rfl (lv_at hl 3 rfl) ?_
      cases hF
      exact m_iret X hp dX0_number_42
    · have hF := if_n c13 hF
      refine lv_iconst (v := 3) hx hb dX0_number_22 (by decide) ?_
      refine lv_iload_n hx hb dX0_number_23 rfl (lv_at hl 3 rfl) ?_
      refine lv_imul hx hb dX0_number_24 ?_
      refine lv_aload_n hx hb dX0_number_25 rfl (lv_at hl 0 rfl) ?_
      refine lv_iload hx hb dX0_number_26 (lv_at hl 4 rfl) ?_
      refine lv_iload_n hx hb dX0_number_28 rfl (lv_at hl 1 rfl) ?_
      refine lv_iload_n hx hb dX0_number_29 rfl (lv_at hl 2 rfl) ?_
      obtain ⟨v15, e14, hF⟩ := ob_s hF
      refine m_callV (As := [.int x4, .int x1, .int x2]) (rest := [.int ((3 : Int32) * x3)]) X hp (w_X0_asBegun e14) q1300 q1302 qs50 q132 q1303 3 rfl ds_X0_asBegun ⟨Nat.le_of_ble_eq_true rfl, Nat.le_of_ble_eq_true rfl⟩ 1 (T := TX0) (N := 30) rfl (by decide) (rR_s e6).1 hl.1 rfl (Nat.le_of_ble_eq_true rfl) dX0_number_30 ⟨Nat.le_refl 0, Nat.le_refl 0⟩ (fun H locs hp => ?_)
      refine lv_iadd hx hb dX0_number_33 ?_
      refine lv_topi (fun v16 ev17 => ?_)
      have hF := nm_s hF ev17
      refine lv_istore_n (lv' := [(3, .int v16), (0, .ref x0), (1, .int x1), (2, .int x2), (4, .int x4)]) hx hb dX0_number_34 rfl hl (by decide) rfl (fun ls hl => ?_)
      obtain ⟨v18, ev19⟩ : ∃ y : Int32, y = x4 + (1 : Int32) := ⟨_, rfl⟩
      have hF := nm_s hF ev19
      refine lv_iinc (v := v18) (lv' := [(4, .int v18), (3, .int v16), (0, .ref x0), (1, .int x1), (2, .int x2)]) hx hb dX0_number_35 hl (k := 4) rfl (by rw [ev19]; rfl) (by decide) rfl (fun ls hl => ?_)
      refine lv_goto (tgt := 5) hx hb dX0_number_38 (by decide) ?_
      exact ih _ _ _ _ _ _ _ _ hp (lv_sub hl [2, 3, 4, 1, 0] rfl) hF
def f_X0_number (S : mSh) (M : mMm) (x0 : Nat) (x1 : Int32) (x2 : Int32) : Option Int32 := nm ((0 : Int32)) fun v1 => nm ((0 : Int32)) fun v3 => (fb_X0_number_5 S M FU x0 x1 x2 v1 v3)
theorem w_X0_number {x0 : Nat} {x1 : Int32} {x2 : Int32} {r : Int32} (hF : f_X0_number S M x0 x1 x2 = some r) : mCt l D n0 P yX0_number cX0_number 5 (some .int) 2 45 0 0 [.ref x0, .int x1, .int x2] S M n (some (.int r)) S M n := by
  refine m_ofW (by decide) (Nat.le_of_ble_eq_true rfl) (fun p e s m below meth c X hnm hp ls hl => ?_)
  have hx := X.1.1
  have hb := X.1.2.1
  have hown := X.1.2.2.2.1
  have hts := X.1.2.2.2.2
  have hl : lv_has ls 5 [(0, .ref x0), (1, .int x1), (2, .int x2)] := hl
  unfold f_X0_number at hF
  refine lv_iconst (v := 0) hx hb dX0_number_0 (by decide) ?_
  refine lv_topi (fun v1 ev2 => ?_)
  have hF := nm_s hF ev2
  refine lv_istore_n (lv' := [(3, .int v1), (0, .ref x0), (1, .int x1), (2, .int x2)]) hx hb dX0_number_1 rfl hl (by decide) rfl (fun ls hl => ?_)
  refine lv_iconst (v := 0) hx hb dX0_number_2 (by decide) ?_
  refine lv_topi (fun v3 ev4 => ?_)
  have hF := nm_s hF ev4
  refine lv_istore (lv' := [(4, .int v3), (3, .int v1), (0, .ref x0), (1, .int x1), (2, .int x2)]) hx hb dX0_number_3 hl (by decide) rfl (fun ls hl => ?_)
  exact b_X0_number_5 X _ _ _ _ _ _ _ _ _ hp (lv_sub hl [2, 3, 4, 1, 0] rfl) hF
end
section
variable {l : Launch} {D : va_G} {n0 : Nat} {P : mP} {S : mSh} {M : mMm} {n : Nat} {p : Program} {e : Env} {s : State} {m : MethodId} {args : Array Value} {below : List Frame} {meth : Method} {c : Code}
abbrev Rm_X0_of : Room := { frames := 508, cells := 0, slots := 0, locals := 11678 }
def fb_X0_of_50 (S : mSh) (M : mMm) (x0 : Nat) (x2 : Int32) (x3 : Nat) : Option (Int32 × mMm) := (if x2 = (0 : Int32) then ob (rI S M x3 5 0) fun v22 => some (v22, M) else (if x2 = (1 : Int32) then gd ((S x3).1 = 5) (ob (f_X4_isIn S M x3) fun v27 => (if v27 = 0 then some ((0 : Int32), M) else some ((1 : Int32), M))) else (if x2 = (2 : Int32) then ob (rI S M x3 5 1) fun v30 => some ((v30 - v30 / (12 : Int32) * (12 : Int32)), M) else (if x2 = (3 : Int32) then ob (rI S M x3 5 1) fun v33 => some ((v33 / (12 : Int32)), M) else (if x2 = (4 : Int32) then ob (rI S M x3 5 2) fun v36 => some (v36, M) else (if x2 = (5 : Int32) then ob (rI S M x3 5 3) fun v39 => some (v39, M) else (if x2 = (6 : Int32) then ob (rI S M x3 5 4) fun v42 => some (v42, M) else (if x2 = (7 : Int32) then ob (rI S M x3 5 5) fun v45 => some (v45, M) else (if x2 = (8 : Int32) then ob (rI S M x3 5 8) fun v48 => some (v48, M) else (if x2 = (9 : Int32) then ob (rI S M x3 5 9) fun v51 => some (v51, M) else (if x2 = (10 : Int32) then ob (rI S M x3 5 10) fun v54 => some (v54, M) else (if x2 = (11 : Int32) then ob (rR S M x0 1 4) fun v57 => gd ((S v57).1 = 2) (ob (f_X1_slips S M v57 x3) fun ⟨v61, M62⟩ => some (v61, M62)) else (if x2 = (12 : Int32) then ob (rR S M x0 1 4) fun v64 => gd ((S v64).1 = 2) (ob (f_X1_sees S M v64 x3) fun ⟨v68, M69⟩ => some (v68, M69)) else ob (rR S M x0 1 4) fun v70 => gd ((S v70).1 = 2) (ob (f_X1_pays S M v70 x3) fun ⟨v74, M75⟩ => some (v74, M75)))))))))))))))
theorem b_X0_of_50 {r : Int32} {M' : mMm} (X : mCx D n0 P p m c cX0_of 4 s args yX0_of.cls meth (some .int)) : ∀ (M : mMm) (x0 : Nat) (x2 : Int32) (x3 : Nat) (H : Heap) (locs : List Loc) (ls : Array Slot), mHp D n0 S M n s H locs → lv_has ls 4 [(0, .ref x0), (2, .int x2), (3, .ref x3)] → fb_X0_of_50 S M x0 x2 x3 = some (r, M') → W p l e Rm_X0_of s m args below meth c H locs 0 0 (MQ below (mQ D n0 (some (.int r)) S M' n) args s 0 0 (mA n0)) (F0 m 50 ls []) := by
  have hx := X.1.1
  have hb := X.1.2.1
  have hown := X.1.2.2.2.1
  have hts := X.1.2.2.2.2
  intro M x0 x2 x3 H locs ls hp hl hF
  unfold fb_X0_of_50 at hF
  refine lv_iload_n hx hb dX0_of_50 rfl (lv_at hl 1 rfl) ?_
  by_cases c21 : x2 = (0 : Int32)
  · have hF := if_p c21 hF
    refine lv_tableIn (x := x2) (tgt := 116) hx hb dX0_of_51 (by rw [c21]; decide) (by rw [c21]; decide) (by rw [c21]; rfl) (by decide) ?_
    refine lv_aload_n hx hb dX0_of_116 rfl (lv_at hl 2 rfl) ?_
    obtain ⟨v22, e23, hF⟩ := ob_s hF
    refine m_getIN X hp e23 kX4 (Nat.le_of_ble_eq_true rfl) q253 dX0_of_117 ?_
    cases hF
    exact m_iret X hp dX0_of_120
  · have hF := if_n c21 hF
    by_cases c24 : x2 = (1 : Int32)
    · have hF := if_p c24 hF
      refine lv_tableIn (x := x2) (tgt := 121) hx hb dX0_of_51 (by rw [c24]; decide) (by rw [c24]; decide) (by rw [c24]; rfl) (by decide) ?_
      refine lv_aload_n hx hb dX0_of_121 rfl (lv_at hl 2 rfl) ?_
      obtain ⟨g25, hF⟩ := gd_s hF
      obtain ⟨v27, e26, hF⟩ := ob_s hF
      refine m_callV (As := []) (rest := []) X hp (w_X4_isIn e26) q1023 q932 q933 q139 q934 0 rfl ds_X4_isIn ⟨Nat.le_of_ble_eq_true rfl, Nat.le_of_ble_eq_true rfl⟩ 5 (T := TX4) (N := 11) rfl (by decide) g25 hl.1 rfl (Nat.le_of_ble_eq_true rfl) dX0_of_122 ⟨Nat.le_refl 0, Nat.le_refl 0⟩ (fun H locs hp => ?_)
      refine lv_if_eq (tgt := 132) hx hb dX0_of_125 (by decide) (fun c28 => ?_) (fun c28 => ?_)
      · have hF := if_p c28 hF
        refine lv_iconst (v := 0) hx hb dX0_of_132 (by decide) ?_
        cases hF
        exact m_iret X hp dX0_of_133
      · have hF := if_n c28 hF
        refine lv_iconst (v := 1) hx hb dX0_of_128 (by decide) ?_
        refine lv_goto (tgt := 133) hx hb dX0_of_129 (by decide) ?_
        cases hF
        exact m_iret X hp dX0_of_133
    · have hF := if_n c24 hF
      by_cases c29 : x2 = (2 : Int32)
      · have hF := if_p c29 hF
        refine lv_tableIn (x := x2) (tgt := 134) hx hb dX0_of_51 (by rw [c29]; decide) (by rw [c29]; decide) (by rw [c29]; rfl) (by decide) ?_
        refine lv_aload_n hx hb dX0_of_134 rfl (lv_at hl 2 rfl) ?_
        obtain ⟨v30, e31, hF⟩ := ob_s hF
        refine m_getIN X hp e31 kX4 (Nat.le_of_ble_eq_true rfl) q256 dX0_of_135 ?_
        refine lv_bipush (v := 12) hx hb dX0_of_138 (by decide) ?_
        refine lv_irem hx hb dX0_of_140 (by decide) ?_
        cases hF
        exact m_iret X hp dX0_of_141
      · have hF := if_n c29 hF
        by_cases c32 : x2 = (3 : Int32)
        · have hF := if_p c32 hF
          refine lv_tableIn (x := x2) (tgt := 142) hx hb dX0_of_51 (by rw [c32]; decide) (by rw [c32]; decide) (by rw [c32]; rfl) (by decide) ?_
          refine lv_aload_n hx hb dX0_of_142 rfl (lv_at hl 2 rfl) ?_
          obtain ⟨v33, e34, hF⟩ := ob_s hF
          refine m_getIN X hp e34 kX4 (Nat.le_of_ble_eq_true rfl) q256 dX0_of_143 ?_
          refine lv_bipush (v := 12) hx hb dX0_of_146 (by decide) ?_
          refine lv_idiv hx hb dX0_of_148 (by decide) ?_
          cases hF
          exact m_iret X hp dX0_of_149
        · have hF := if_n c32 hF
          by_cases c35 : x2 = (4 : Int32)
          · have hF := if_p c35 hF
            refine lv_tableIn (x := x2) (tgt := 150) hx hb dX0_of_51 (by rw [c35]; decide) (by rw [c35]; decide) (by rw [c35]; rfl) (by decide) ?_
            refine lv_aload_n hx hb dX0_of_150 rfl (lv_at hl 2 rfl) ?_
            obtain ⟨v36, e37, hF⟩ := ob_s hF
            refine m_getIN X hp e37 kX4 (Nat.le_of_ble_eq_true rfl) q259 dX0_of_151 ?_
            cases hF
            exact m_iret X hp dX0_of_154
          · have hF := if_n c35 hF
            by_cases c38 : x2 = (5 : Int32)
            · have hF := if_p c38 hF
              refine lv_tableIn (x := x2) (tgt := 155) hx hb dX0_of_51 (by rw [c38]; decide) (by rw [c38]; decide) (by rw [c38]; rfl) (by decide) ?_
              refine lv_aload_n hx hb dX0_of_155 rfl (lv_at hl 2 rfl) ?_
              obtain ⟨v39, e40, hF⟩ := ob_s hF
              refine m_getIN X hp e40 kX4 (Nat.le_of_ble_eq_true rfl) q262 dX0_of_156 ?_
              cases hF
              exact m_iret X hp dX0_of_159
            · have hF := if_n c38 hF
              by_cases c41 : x2 = (6 : Int32)
              · have hF := if_p c41 hF
                refine lv_tableIn (x := x2) (tgt := 160) hx hb dX0_of_51 (by rw [c41]; decide) (by rw [c41]; decide) (by rw [c41]; rfl) (by decide) ?_
                refine lv_aload_n hx hb dX0_of_160 rfl (lv_at hl 2 rfl) ?_
                obtain ⟨v42, e43, hF⟩ := ob_s hF
                refine m_getIN X hp e43 kX4 (Nat.le_of_ble_eq_true rfl) q265 dX0_of_161 ?_
                cases hF
                exact m_iret X hp dX0_of_164
              · have hF := if_n c41 hF
                by_cases c44 : x2 = (7 : Int32)
                · have hF := if_p c44 hF
                  refine lv_tableIn (x := x2) (tgt := 165) hx hb dX0_of_51 (by rw [c44]; decide) (by rw [c44]; decide) (by rw [c44]; rfl) (by decide) ?_
                  refine lv_aload_n hx hb dX0_of_165 rfl (lv_at hl 2 rfl) ?_
                  obtain ⟨v45, e46, hF⟩ := ob_s hF
                  refine m_getIN X hp e46 kX4 (Nat.le_of_ble_eq_true rfl) q268 dX0_of_166 ?_
                  cases hF
                  exact m_iret X hp dX0_of_169
                · have hF := if_n c44 hF
                  by_cases c47 : x2 = (8 : Int32)
                  · have hF := if_p c47 hF
                    refine lv_tableIn (x := x2) (tgt := 170) hx hb dX0_of_51 (by rw [c47]; decide) (by rw [c47]; decide) (by rw [c47]; rfl) (by decide) ?_
                    refine lv_aload_n hx hb dX0_of_170 rfl (lv_at hl 2 rfl) ?_
                    obtain ⟨v48, e49, hF⟩ := ob_s hF
                    refine m_getIN X hp e49 kX4 (Nat.le_of_ble_eq_true rfl) q275 dX0_of_171 ?_
                    cases hF
                    exact m_iret X hp dX0_of_174
                  · have hF := if_n c47 hF
                    by_cases c50 : x2 = (9 : Int32)
                    · have hF := if_p c50 hF
                      refine lv_tableIn (x := x2) (tgt := 175) hx hb dX0_of_51 (by rw [c50]; decide) (by rw [c50]; decide) (by rw [c50]; rfl) (by decide) ?_
                      refine lv_aload_n hx hb dX0_of_175 rfl (lv_at hl 2 rfl) ?_
                      obtain ⟨v51, e52, hF⟩ := ob_s hF
                      refine m_getIN X hp e52 kX4 (Nat.le_of_ble_eq_true rfl) q278 dX0_of_176 ?_
                      cases hF
                      exact m_iret X hp dX0_of_179
                    · have hF := if_n c50 hF
                      by_cases c53 : x2 = (10 : Int32)
                      · have hF := if_p c53 hF
                        refine lv_tableIn (x := x2) (tgt := 180) hx hb dX0_of_51 (by rw [c53]; decide) (by rw [c53]; decide) (by rw [c53]; rfl) (by decide) ?_
                        refine lv_aload_n hx hb dX0_of_180 rfl (lv_at hl 2 rfl) ?_
                        obtain ⟨v54, e55, hF⟩ := ob_s hF
                        refine m_getIN X hp e55 kX4 (Nat.le_of_ble_eq_true rfl) q281 dX0_of_181 ?_
                        cases hF
                        exact m_iret X hp dX0_of_184
                      · have hF := if_n c53 hF
                        by_cases c56 : x2 = (11 : Int32)
                        · have hF := if_p c56 hF
                          refine lv_tableIn (x := x2) (tgt := 185) hx hb dX0_of_51 (by rw [c56]; decide) (by rw [c56]; decide) (by rw [c56]; rfl) (by decide) ?_
                          refine lv_aload_n hx hb dX0_of_185 rfl (lv_at hl 0 rfl) ?_
                          obtain ⟨v57, e58, hF⟩ := ob_s hF
                          refine m_getR X hp e58 kX0 (Nat.le_of_ble_eq_true rfl) q463 dX0_of_186 ?_
                          refine lv_aload_n hx hb dX0_of_189 rfl (lv_at hl 2 rfl) ?_
                          obtain ⟨g59, hF⟩ := gd_s hF
                          obtain ⟨⟨v61, M62⟩, e60, hF⟩ := ob_s hF
                          refine m_callV (As := [.ref x3]) (rest := []) X hp (w_X1_slips e60) q1194 q1187 q1188 q133 q1189 1 rfl ds_X1_slips ⟨Nat.le_of_ble_eq_true rfl, Nat.le_of_ble_eq_true rfl⟩ 2 (T := TX1) (N := 19) rfl (by decide) g59 hl.1 rfl (Nat.le_of_ble_eq_true rfl) dX0_of_190 ⟨Nat.le_refl 0, Nat.le_refl 0⟩ (fun H locs hp => ?_)
                          cases hF
                          exact m_iret X hp dX0_of_193
                        · have hF := if_n c56 hF
                          by_cases c63 : x2 = (12 : Int32)
                          · have hF := if_p c63 hF
                            refine lv_tableIn (x := x2) (tgt := 194) hx hb dX0_of_51 (by rw [c63]; decide) (by rw [c63]; decide) (by rw [c63]; rfl) (by decide) ?_
                            refine lv_aload_n hx hb dX0_of_194 rfl (lv_at hl 0 rfl) ?_
                            obtain ⟨v64, e65, hF⟩ := ob_s hF
                            refine m_getR X hp e65 kX0 (Nat.le_of_ble_eq_true rfl) q463 dX0_of_195 ?_
                            refine lv_aload_n hx hb dX0_of_198 rfl (lv_at hl 2 rfl) ?_
                            obtain ⟨g66, hF⟩ := gd_s hF
                            obtain ⟨⟨v68, M69⟩, e67, hF⟩ := ob_s hF
                            refine m_callV (As := [.ref x3]) (rest := []) X hp (w_X1_sees e67) q1195 q1172 q1173 q133 q1174 1 rfl ds_X1_sees ⟨Nat.le_of_ble_eq_true rfl, Nat.le_of_ble_eq_true rfl⟩ 2 (T := TX1) (N := 19) rfl (by decide) g66 hl.1 rfl (Nat.le_of_ble_eq_true rfl) dX0_of_199 ⟨Nat.le_refl 0, Nat.le_refl 0⟩ (fun H locs hp => ?_)
                            cases hF
                            exact m_iret X hp dX0_of_202
                          · have hF := if_n c63 hF
                            refine lv_tableOut (x := x2) (tgt := 203) hx hb dX0_of_51 (tb_out 12 (by decide) (by decide) (fun j hj => by
                              match j, hj with
                              | 0, _ => exact c21
                              | 1, _ => exact c24
                              | 2, _ => exact c29
                              | 3, _ => exact c32
                              | 4, _ => exact c35
                              | 5, _ => exact c38
                              | 6, _ => exact c41
                              | 7, _ => exact c44
                              | 8, _ => exact c47
                              | 9, _ => exact c50
                              | 10, _ => exact c53
                              | 11, _ => exact c56
                              | 12, _ => exact c63
                              | j + 13, hj => exact absurd hj (by omega))) (by decide) ?_
                            refine lv_aload_n hx hb dX0_of_203 rfl (lv_at hl 0 rfl) ?_
                            obtain ⟨v70, e71, hF⟩ := ob_s hF
                            refine m_getR X hp e71 kX0 (Nat.le_of_ble_eq_true rfl) q463 dX0_of_204 ?_
                            refine lv_aload_n hx hb dX0_of_207 rfl (lv_at hl 2 rfl) ?_
                            obtain ⟨g72, hF⟩ := gd_s hF
                            obtain ⟨⟨v74, M75⟩, e73, hF⟩ := ob_s hF
                            refine m_callV (As := [.ref x3]) (rest := []) X hp (w_X1_pays e73) q1196 q1116 q1117 q133 q1118 1 rfl ds_X1_pays ⟨Nat.le_of_ble_eq_true rfl, Nat.le_of_ble_eq_true rfl⟩ 2 (T := TX1) (N := 19) rfl (by decide) g72 hl.1 rfl (Nat.le_of_ble_eq_true rfl) dX0_of_208 ⟨Nat.le_refl 0, Nat.le_refl 0⟩ (fun H locs hp => ?_)
                            cases hF
                            exact m_iret X hp dX0_of_211
def f_X0_of (S : mSh) (M : mMm) (x0 : Nat) (x1 : Int32) (x2 : Int32) : Option (Int32 × mMm) := gd ((S x0).1 = 1) (ob (f_X0_isWalker S M x0 x1) fun v3 => (if v3 = 0 then some ((-2 : Int32), M) else ob (f_X0_isIn x2 (0 : Int32) (13 : Int32)) fun v6 => (if v6 = 0 then some ((-2 : Int32), M) else ob (rR S M x0 1 4) fun v8 => ob (rR S M v8 2 1) fun v10 => ob (aR S M v10 104 x1) fun v12 => ob (f_X0_isIn x2 (2 : Int32) (7 : Int32)) fun v15 => (if v15 = 0 then (fb_X0_of_50 S M x0 x2 v12) else gd ((S v12).1 = 5) (ob (f_X4_isIn S M v12) fun v19 => (if v19 = 0 then some ((-1 : Int32), M) else (fb_X0_of_50 S M x0 x2 v12)))))))
theorem w_X0_of {x0 : Nat} {x1 : Int32} {x2 : Int32} {r : Int32} {M' : mMm} (hF : f_X0_of S M x0 x1 x2 = some (r, M')) : mCt l D n0 P yX0_of cX0_of 4 (some .int) 508 11678 0 0 [.ref x0, .int x1, .int x2] S M n (some (.int r)) S M' n := by
  refine m_ofW (by decide) (Nat.le_of_ble_eq_true rfl) (fun p e s m below meth c X hnm hp ls hl => ?_)
  have hx := X.1.1
  have hb := X.1.2.1
  have hown := X.1.2.2.2.1
  have hts := X.1.2.2.2.2
  have hl : lv_has ls 4 [(0, .ref x0), (1, .int x1), (2, .int x2)] := hl
  unfold f_X0_of at hF
  refine lv_aload_n hx hb dX0_of_0 rfl (lv_at hl 0 rfl) ?_
  refine lv_iload_n hx hb dX0_of_1 rfl (lv_at hl 1 rfl) ?_
  obtain ⟨g1, hF⟩ := gd_s hF
  obtain ⟨v3, e2, hF⟩ := ob_s hF
  refine m_callV (As := [.int x1]) (rest := []) X hp (w_X0_isWalker e2) q1019 q1021 qs30 q132 q1022 1 rfl ds_X0_isWalker ⟨Nat.le_of_ble_eq_true rfl, Nat.le_of_ble_eq_true rfl⟩ 1 (T := TX0) (N := 30) rfl (by decide) g1 hl.1 rfl (Nat.le_of_ble_eq_true rfl) dX0_of_2 ⟨Nat.le_refl 0, Nat.le_refl 0⟩ (fun H locs hp => ?_)
  refine lv_if_eq (tgt := 18) hx hb dX0_of_5 (by decide) (fun c4 => ?_) (fun c4 => ?_)
  · have hF := if_p c4 hF
    refine lv_bipush (v := -2) hx hb dX0_of_18 (by decide) ?_
    cases hF
    exact m_iret X hp dX0_of_20
  · have hF := if_n c4 hF
    refine lv_iload_n hx hb dX0_of_8 rfl (lv_at hl 2 rfl) ?_
    refine lv_iconst (v := 0) hx hb dX0_of_9 (by decide) ?_
    refine lv_bipush (v := 13) hx hb dX0_of_10 (by decide) ?_
    obtain ⟨v6, e5, hF⟩ := ob_s hF
    refine m_callS (As := [.int x2, .int (0 : Int32), .int (13 : Int32)]) (rest := []) X hp (w_X0_isIn e5) q565 q566 q132 q567 3 rfl ds_X0_isIn ⟨Nat.le_of_ble_eq_true rfl, Nat.le_of_ble_eq_true rfl⟩ hl.1 rfl (Nat.le_of_ble_eq_true rfl) dX0_of_12 ⟨Nat.le_refl 0, Nat.le_refl 0⟩ (fun H locs hp => ?_)
    refine lv_if_ne (tgt := 21) hx hb dX0_of_15 (by decide) (fun c7 => ?_) (fun c7 => ?_)
    · have hF := if_n c7 hF
      refine lv_aload_n hx hb dX0_of_21 rfl (lv_at hl 0 rfl) ?_
      obtain ⟨v8, e9, hF⟩ := ob_s hF
      refine m_getR X hp e9 kX0 (Nat.le_of_ble_eq_true rfl) q463 dX0_of_22 ?_
      obtain ⟨v10, e11, hF⟩ := ob_s hF
      refine m_getRN X hp e11 kX1 (Nat.le_of_ble_eq_true rfl) q378 dX0_of_25 ?_
      refine lv_iload_n hx hb dX0_of_28 rfl (lv_at hl 1 rfl) ?_
      obtain ⟨v12, e13, hF⟩ := ob_s hF
      refine m_aaR 104 X hp e13 rfl (by decide) rfl dX0_of_29 ?_
      refine lv_astore_n (lv' := [(3, .ref v12), (0, .ref x0), (1, .int x1), (2, .int x2)]) hx hb dX0_of_30 rfl hl (by decide) rfl (fun ls hl => ?_)
      refine lv_iload_n hx hb dX0_of_31 rfl (lv_at hl 3 rfl) ?_
      refine lv_iconst (v := 2) hx hb dX0_of_32 (by decide) ?_
      refine lv_bipush (v := 7) hx hb dX0_of_33 (by decide) ?_
      obtain ⟨v15, e14, hF⟩ := ob_s hF
      refine m_callS (As := [.int x2, .int (2 : Int32), .int (7 : Int32)]) (rest := []) X hp (w_X0_isIn e14) q565 q566 q132 q567 3 rfl ds_X0_isIn ⟨Nat.le_of_ble_eq_true rfl, Nat.le_of_ble_eq_true rfl⟩ hl.1 rfl (Nat.le_of_ble_eq_true rfl) dX0_of_35 ⟨Nat.le_refl 0, Nat.le_refl 0⟩ (fun H locs hp => ?_)
      refine lv_if_eq (tgt := 50) hx hb dX0_of_38 (by decide) (fun c16 => ?_) (fun c16 => ?_)
      · have hF := if_p c16 hF
        exact b_X0_of_50 X _ _ _ _ _ _ _ hp (lv_sub hl [1, 3, 0] rfl) hF
      · have hF := if_n c16 hF
        refine lv_aload_n hx hb dX0_of_41 rfl (lv_at hl 0 rfl) ?_
        obtain ⟨g17, hF⟩ := gd_s hF
        obtain ⟨v19, e18, hF⟩ := ob_s hF
        refine m_callV (As := []) (rest := []) X hp (w_X4_isIn e18) q1023 q932 q933 q139 q934 0 rfl ds_X4_isIn ⟨Nat.le_of_ble_eq_true rfl, Nat.le_of_ble_eq_true rfl⟩ 5 (T := TX4) (N := 11) rfl (by decide) g17 hl.1 rfl (Nat.le_of_ble_eq_true rfl) dX0_of_42 ⟨Nat.le_refl 0, Nat.le_refl 0⟩ (fun H locs hp => ?_)
        refine lv_if_ne (tgt := 50) hx hb dX0_of_45 (by decide) (fun c20 => ?_) (fun c20 => ?_)
        · have hF := if_n c20 hF
          exact b_X0_of_50 X _ _ _ _ _ _ _ hp (lv_sub hl [1, 3, 0] rfl) hF
        · have hF := if_p c20 hF
          refine lv_iconst (v := -1) hx hb dX0_of_48 (by decide) ?_
          cases hF
          exact m_iret X hp dX0_of_49
    · have hF := if_p c7 hF
      refine lv_bipush (v := -2) hx hb dX0_of_18 (by decide) ?_
      cases hF
      exact m_iret X hp dX0_of_20
end
section
variable {l : Launch} {D : va_G} {n0 : Nat} {P : mP} {S : mSh} {M : mMm} {n : Nat} {p : Program} {e : Env} {s : State} {m : MethodId} {args : Array Value} {below : List Frame} {meth : Method} {c : Code}
abbrev Rm_X0_unlikeRows : Room := { frames := 3, cells := 0, slots := 0, locals := 69 }
def fb_X0_unlikeRows_97 (S : mSh) (M : mMm) (k38 : Nat → Int32 → Int32 → Int32 → Int32 → Int32 → Option Int32) (x0 : Nat) (x1 : Int32) (x2 : Int32) (x3 : Int32) (x5 : Int32) (y0 : Int32) : Option Int32 := nm (x5 + (1 : Int32)) fun v28 => (k38 x0 x1 x2 x3 y0 v28)
theorem b_X0_unlikeRows_97 {r : Int32} (X : mCx D n0 P p m c cX0_unlikeRows 6 s args yX0_unlikeRows.cls meth (some .int)) (k38 : Nat → Int32 → Int32 → Int32 → Int32 → Int32 → Option Int32) (hk38 : ∀ (x0 : Nat) (x1 : Int32) (x2 : Int32) (x3 : Int32) (x4 : Int32) (x5 : Int32) (H : Heap) (locs : List Loc) (ls : Array Slot), mHp D n0 S M n s H locs → lv_has ls 6 [(0, .ref x0), (1, .int x1), (2, .int x2), (3, .int x3), (4, .int x4), (5, .int x5)] → k38 x0 x1 x2 x3 x4 x5 = some r → W p l e Rm_X0_unlikeRows s m args below meth c H locs 0 0 (MQ below (mQ D n0 (some (.int r)) S M n) args s 0 0 (mA n0)) (F0 m 38 ls [])) : ∀ (x0 : Nat) (x1 : Int32) (x2 : Int32) (x3 : Int32) (x5 : Int32) (y0 : Int32) (H : Heap) (locs : List Loc) (ls : Array Slot), mHp D n0 S M n s H locs → lv_has ls 6 [(0, .ref x0), (1, .int x1), (2, .int x2), (3, .int x3), (5, .int x5)] → fb_X0_unlikeRows_97 S M k38 x0 x1 x2 x3 x5 y0 = some r → W p l e Rm_X0_unlikeRows s m args below meth c H locs 0 0 (MQ below (mQ D n0 (some (.int r)) S M n) args s 0 0 (mA n0)) (F0 m 97 ls [.int y0]) := by
  have hx := X.1.1
  have hb := X.1.2.1
  have hown := X.1.2.2.2.1
  have hts := X.1.2.2.2.2
  intro x0 x1 x2 x3 x5 y0 H locs ls hp hl hF
  unfold fb_X0_unlikeRows_97 at hF
  refine lv_istore (lv' := [(4, .int y0), (0, .ref x0), (1, .int x1), (2, .int x2), (3, .int x3), (5, .int x5)]) hx hb dX0_unlikeRows_97 hl (by decide) rfl (fun ls hl => ?_)
  obtain ⟨v28, ev29⟩ : ∃ y : Int32, y = x5 + (1 : Int32) := ⟨_, rfl⟩
  have hF := nm_s hF ev29
  refine lv_iinc (v := v28) (lv' := [(5, .int v28), (4, .int y0), (0, .ref x0), (1, .int x1), (2, .int x2), (3, .int x3)]) hx hb dX0_unlikeRows_99 hl (k := 5) rfl (by rw [ev29]; rfl) (by decide) rfl (fun ls hl => ?_)
  refine lv_goto (tgt := 38) hx hb dX0_unlikeRows_102 (by decide) ?_
  exact hk38 _ _ _ _ _ _ _ _ _ hp (lv_sub hl [2, 3, 4, 5, 1, 0] rfl) hF
def fb_X0_unlikeRows_86 (S : mSh) (M : mMm) (k38 : Nat → Int32 → Int32 → Int32 → Int32 → Int32 → Option Int32) (x0 : Nat) (x1 : Int32) (x2 : Int32) (x3 : Int32) (x5 : Int32) (y0 : Int32) (y1 : Int32) (y2 : Nat) (y3 : Int32) : Option Int32 := gd ((S y2).1 = 1) (ob (f_X0_number S M y2 y1 y0) fun v26 => (if y3 = v26 then (fb_X0_unlikeRows_97 S M k38 x0 x1 x2 x3 x5 (0 : Int32)) else (fb_X0_unlikeRows_97 S M k38 x0 x1 x2 x3 x5 (1 : Int32))))
theorem b_X0_unlikeRows_86 {r : Int32} (X : mCx D n0 P p m c cX0_unlikeRows 6 s args yX0_unlikeRows.cls meth (some .int)) (k38 : Nat → Int32 → Int32 → Int32 → Int32 → Int32 → Option Int32) (hk38 : ∀ (x0 : Nat) (x1 : Int32) (x2 : Int32) (x3 : Int32) (x4 : Int32) (x5 : Int32) (H : Heap) (locs : List Loc) (ls : Array Slot), mHp D n0 S M n s H locs → lv_has ls 6 [(0, .ref x0), (1, .int x1), (2, .int x2), (3, .int x3), (4, .int x4), (5, .int x5)] → k38 x0 x1 x2 x3 x4 x5 = some r → W p l e Rm_X0_unlikeRows s m args below meth c H locs 0 0 (MQ below (mQ D n0 (some (.int r)) S M n) args s 0 0 (mA n0)) (F0 m 38 ls [])) : ∀ (x0 : Nat) (x1 : Int32) (x2 : Int32) (x3 : Int32) (x5 : Int32) (y0 : Int32) (y1 : Int32) (y2 : Nat) (y3 : Int32) (H : Heap) (locs : List Loc) (ls : Array Slot), mHp D n0 S M n s H locs → lv_has ls 6 [(0, .ref x0), (1, .int x1), (2, .int x2), (3, .int x3), (5, .int x5)] → fb_X0_unlikeRows_86 S M k38 x0 x1 x2 x3 x5 y0 y1 y2 y3 = some r → W p l e Rm_X0_unlikeRows s m args below meth c H locs 0 0 (MQ below (mQ D n0 (some (.int r)) S M n) args s 0 0 (mA n0)) (F0 m 86 ls [.int y0, .int y1, .ref y2, .int y3]) := by
  have hx := X.1.1
  have hb := X.1.2.1
  have hown := X.1.2.2.2.1
  have hts := X.1.2.2.2.2
  intro x0 x1 x2 x3 x5 y0 y1 y2 y3 H locs ls hp hl hF
  unfold fb_X0_unlikeRows_86 at hF
  obtain ⟨g24, hF⟩ := gd_s hF
  obtain ⟨v26, e25, hF⟩ := ob_s hF
  refine m_callV (As := [.int y1, .int y0]) (rest := [.int y3]) X hp (w_X0_number e25) q1296 q1298 qs49 q132 q1299 2 rfl ds_X0_number ⟨Nat.le_of_ble_eq_true rfl, Nat.le_of_ble_eq_true rfl⟩ 1 (T := TX0) (N := 30) rfl (by decide) g24 hl.1 rfl (Nat.le_of_ble_eq_true rfl) dX0_unlikeRows_86 ⟨Nat.le_refl 0, Nat.le_refl 0⟩ (fun H locs hp => ?_)
  refine lv_icmp_eq (tgt := 96) hx hb dX0_unlikeRows_89 (by decide) (fun c27 => ?_) (fun c27 => ?_)
  · have hF := if_p c27 hF
    refine lv_iconst (v := 0) hx hb dX0_unlikeRows_96 (by decide) ?_
    exact b_X0_unlikeRows_97 X _ hk38 _ _ _ _ _ _ _ _ _ hp (lv_sub hl [0, 1, 2, 3, 4] rfl) hF
  · have hF := if_n c27 hF
    refine lv_iconst (v := 1) hx hb dX0_unlikeRows_92 (by decide) ?_
    refine lv_goto (tgt := 97) hx hb dX0_unlikeRows_93 (by decide) ?_
    exact b_X0_unlikeRows_97 X _ hk38 _ _ _ _ _ _ _ _ _ hp (lv_sub hl [0, 1, 2, 3, 4] rfl) hF
def fb_X0_unlikeRows_67 (S : mSh) (M : mMm) (k38 : Nat → Int32 → Int32 → Int32 → Int32 → Int32 → Option Int32) (x0 : Nat) (x1 : Int32) (x2 : Int32) (x3 : Int32) (x5 : Int32) (y0 : Int32) (y1 : Int32) (y2 : Nat) : Option Int32 := gd ((S y2).1 = 1) (ob (f_X0_number S M y2 y1 y0) fun v22 => (if (x3 - x3 / (2 : Int32) * (2 : Int32)) = (1 : Int32) then (fb_X0_unlikeRows_86 S M k38 x0 x1 x2 x3 x5 (1 : Int32) (x3 / (2 : Int32)) x0 v22) else (fb_X0_unlikeRows_86 S M k38 x0 x1 x2 x3 x5 (0 : Int32) (x3 / (2 : Int32)) x0 v22)))
theorem b_X0_unlikeRows_67 {r : Int32} (X : mCx D n0 P p m c cX0_unlikeRows 6 s args yX0_unlikeRows.cls meth (some .int)) (k38 : Nat → Int32 → Int32 → Int32 → Int32 → Int32 → Option Int32) (hk38 : ∀ (x0 : Nat) (x1 : Int32) (x2 : Int32) (x3 : Int32) (x4 : Int32) (x5 : Int32) (H : Heap) (locs : List Loc) (ls : Array Slot), mHp D n0 S M n s H locs → lv_has ls 6 [(0, .ref x0), (1, .int x1), (2, .int x2), (3, .int x3), (4, .int x4), (5, .int x5)] → k38 x0 x1 x2 x3 x4 x5 = some r → W p l e Rm_X0_unlikeRows s m args below meth c H locs 0 0 (MQ below (mQ D n0 (some (.int r)) S M n) args s 0 0 (mA n0)) (F0 m 38 ls [])) : ∀ (x0 : Nat) (x1 : Int32) (x2 : Int32) (x3 : Int32) (x5 : Int32) (y0 : Int32) (y1 : Int32) (y2 : Nat) (H : Heap) (locs : List Loc) (ls : Array Slot), mHp D n0 S M n s H locs → lv_has ls 6 [(0, .ref x0), (1, .int x1), (2, .int x2), (3, .int x3), (5, .int x5)] → fb_X0_unlikeRows_67 S M k38 x0 x1 x2 x3 x5 y0 y1 y2 = some r → W p l e Rm_X0_unlikeRows s m args below meth c H locs 0 0 (MQ below (mQ D n0 (some (.int r)) S M n) args s 0 0 (mA n0)) (F0 m 67 ls [.int y0, .int y1, .ref y2]) := by
  have hx := X.1.1
  have hb := X.1.2.1
  have hown := X.1.2.2.2.1
  have hts := X.1.2.2.2.2
  intro x0 x1 x2 x3 x5 y0 y1 y2 H locs ls hp hl hF
  unfold fb_X0_unlikeRows_67 at hF
  obtain ⟨g20, hF⟩ := gd_s hF
  obtain ⟨v22, e21, hF⟩ := ob_s hF
  refine m_callV (As := [.int y1, .int y0]) (rest := []) X hp (w_X0_number e21) q1296 q1298 qs49 q132 q1299 2 rfl ds_X0_number ⟨Nat.le_of_ble_eq_true rfl, Nat.le_of_ble_eq_true rfl⟩ 1 (T := TX0) (N := 30) rfl (by decide) g20 hl.1 rfl (Nat.le_of_ble_eq_true rfl) dX0_unlikeRows_67 ⟨Nat.le_refl 0, Nat.le_refl 0⟩ (fun H locs hp => ?_)
  refine lv_aload_n hx hb dX0_unlikeRows_70 rfl (lv_at hl 0 rfl) ?_
  refine lv_iload_n hx hb dX0_unlikeRows_71 rfl (lv_at hl 3 rfl) ?_
  refine lv_iconst (v := 2) hx hb dX0_unlikeRows_72 (by decide) ?_
  refine lv_idiv hx hb dX0_unlikeRows_73 (by decide) ?_
  refine lv_iload_n hx hb dX0_unlikeRows_74 rfl (lv_at hl 3 rfl) ?_
  refine lv_iconst (v := 2) hx hb dX0_unlikeRows_75 (by decide) ?_
  refine lv_irem hx hb dX0_unlikeRows_76 (by decide) ?_
  refine lv_iconst (v := 1) hx hb dX0_unlikeRows_77 (by decide) ?_
  refine lv_icmp_ne (tgt := 85) hx hb dX0_unlikeRows_78 (by decide) (fun c23 => ?_) (fun c23 => ?_)
  · have hF := if_n c23 hF
    refine lv_iconst (v := 0) hx hb dX0_unlikeRows_85 (by decide) ?_
    exact b_X0_unlikeRows_86 X _ hk38 _ _ _ _ _ _ _ _ _ _ _ _ hp (lv_sub hl [0, 1, 2, 3, 4] rfl) hF
  · have hF := if_p c23 hF
    refine lv_iconst (v := 1) hx hb dX0_unlikeRows_81 (by decide) ?_
    refine lv_goto (tgt := 86) hx hb dX0_unlikeRows_82 (by decide) ?_
    exact b_X0_unlikeRows_86 X _ hk38 _ _ _ _ _ _ _ _ _ _ _ _ hp (lv_sub hl [0, 1, 2, 3, 4] rfl) hF
def fb_X0_unlikeRows_116 (S : mSh) (M : mMm) (k25 : Nat → Int32 → Int32 → Int32 → Option Int32) (x0 : Nat) (x1 : Int32) (x3 : Int32) (y0 : Int32) (y1 : Int32) : Option Int32 := nm ((y1 + y0)) fun v31 => nm (x3 + (1 : Int32)) fun v33 => (k25 x0 x1 v31 v33)
theorem b_X0_unlikeRows_116 {r : Int32} (X : mCx D n0 P p m c cX0_unlikeRows 6 s args yX0_unlikeRows.cls meth (some .int)) (k25 : Nat → Int32 → Int32 → Int32 → Option Int32) (hk25 : ∀ (x0 : Nat) (x1 : Int32) (x2 : Int32) (x3 : Int32) (H : Heap) (locs : List Loc) (ls : Array Slot), mHp D n0 S M n s H locs → lv_has ls 6 [(0, .ref x0), (1, .int x1), (2, .int x2), (3, .int x3)] → k25 x0 x1 x2 x3 = some r → W p l e Rm_X0_unlikeRows s m args below meth c H locs 0 0 (MQ below (mQ D n0 (some (.int r)) S M n) args s 0 0 (mA n0)) (F0 m 25 ls [])) : ∀ (x0 : Nat) (x1 : Int32) (x3 : Int32) (y0 : Int32) (y1 : Int32) (H : Heap) (locs : List Loc) (ls : Array Slot), mHp D n0 S M n s H locs → lv_has ls 6 [(0, .ref x0), (1, .int x1), (3, .int x3)] → fb_X0_unlikeRows_116 S M k25 x0 x1 x3 y0 y1 = some r → W p l e Rm_X0_unlikeRows s m args below meth c H locs 0 0 (MQ below (mQ D n0 (some (.int r)) S M n) args s 0 0 (mA n0)) (F0 m 116 ls [.int y0, .int y1]) := by
  have hx := X.1.1
  have hb := X.1.2.1
  have hown := X.1.2.2.2.1
  have hts := X.1.2.2.2.2
  intro x0 x1 x3 y0 y1 H locs ls hp hl hF
  unfold fb_X0_unlikeRows_116 at hF
  refine lv_iadd hx hb dX0_unlikeRows_116 ?_
  refine lv_topi (fun v31 ev32 => ?_)
  have hF := nm_s hF ev32
  refine lv_istore_n (lv' := [(2, .int v31), (0, .ref x0), (1, .int x1), (3, .int x3)]) hx hb dX0_unlikeRows_117 rfl hl (by decide) rfl (fun ls hl => ?_)
  obtain ⟨v33, ev34⟩ : ∃ y : Int32, y = x3 + (1 : Int32) := ⟨_, rfl⟩
  have hF := nm_s hF ev34
  refine lv_iinc (v := v33) (lv' := [(3, .int v33), (2, .int v31), (0, .ref x0), (1, .int x1)]) hx hb dX0_unlikeRows_118 hl (k := 3) rfl (by rw [ev34]; rfl) (by decide) rfl (fun ls hl => ?_)
  refine lv_goto (tgt := 25) hx hb dX0_unlikeRows_121 (by decide) ?_
  exact hk25 _ _ _ _ _ _ _ hp (lv_sub hl [2, 3, 1, 0] rfl) hF
def fb_X0_unlikeRows_105 (S : mSh) (M : mMm) (k25 : Nat → Int32 → Int32 → Int32 → Option Int32) (x0 : Nat) (x1 : Int32) (x2 : Int32) (x3 : Int32) (x4 : Int32) : Option Int32 := (if x4 = 0 then (fb_X0_unlikeRows_116 S M k25 x0 x1 x3 (0 : Int32) x2) else (fb_X0_unlikeRows_116 S M k25 x0 x1 x3 (1 : Int32) x2))
theorem b_X0_unlikeRows_105 {r : Int32} (X : mCx D n0 P p m c cX0_unlikeRows 6 s args yX0_unlikeRows.cls meth (some .int)) (k25 : Nat → Int32 → Int32 → Int32 → Option Int32) (hk25 : ∀ (x0 : Nat) (x1 : Int32) (x2 : Int32) (x3 : Int32) (H : Heap) (locs : List Loc) (ls : Array Slot), mHp D n0 S M n s H locs → lv_has ls 6 [(0, .ref x0), (1, .int x1), (2, .int x2), (3, .int x3)] → k25 x0 x1 x2 x3 = some r → W p l e Rm_X0_unlikeRows s m args below meth c H locs 0 0 (MQ below (mQ D n0 (some (.int r)) S M n) args s 0 0 (mA n0)) (F0 m 25 ls [])) : ∀ (x0 : Nat) (x1 : Int32) (x2 : Int32) (x3 : Int32) (x4 : Int32) (H : Heap) (locs : List Loc) (ls : Array Slot), mHp D n0 S M n s H locs → lv_has ls 6 [(0, .ref x0), (1, .int x1), (2, .int x2), (3, .int x3), (4, .int x4)] → fb_X0_unlikeRows_105 S M k25 x0 x1 x2 x3 x4 = some r → W p l e Rm_X0_unlikeRows s m args below meth c H locs 0 0 (MQ below (mQ D n0 (some (.int r)) S M n) args s 0 0 (mA n0)) (F0 m 105 ls []) := by
  have hx := X.1.1
  have hb := X.1.2.1
  have hown := X.1.2.2.2.1
  have hts := X.1.2.2.2.2
  intro x0 x1 x2 x3 x4 H locs ls hp hl hF
  unfold fb_X0_unlikeRows_105 at hF
  refine lv_iload_n hx hb dX0_unlikeRows_105 rfl (lv_at hl 2 rfl) ?_
  refine lv_iload hx hb dX0_unlikeRows_106 (lv_at hl 4 rfl) ?_
  refine lv_if_eq (tgt := 115) hx hb dX0_unlikeRows_108 (by decide) (fun c30 => ?_) (fun c30 => ?_)
  · have hF := if_p c30 hF
    refine lv_iconst (v := 0) hx hb dX0_unlikeRows_115 (by decide) ?_
    exact b_X0_unlikeRows_116 X _ hk25 _ _ _ _ _ _ _ _ hp (lv_sub hl [0, 1, 3] rfl) hF
  · have hF := if_n c30 hF
    refine lv_iconst (v := 1) hx hb dX0_unlikeRows_111 (by decide) ?_
    refine lv_goto (tgt := 116) hx hb dX0_unlikeRows_112 (by decide) ?_
    exact b_X0_unlikeRows_116 X _ hk25 _ _ _ _ _ _ _ _ hp (lv_sub hl [0, 1, 3] rfl) hF
def fb_X0_unlikeRows_38 (S : mSh) (M : mMm) (k25 : Nat → Int32 → Int32 → Int32 → Option Int32) : Nat → Nat → Int32 → Int32 → Int32 → Int32 → Int32 → Option Int32
  | 0, _, _, _, _, _, _ => none
  | t + 1, x0, x1, x2, x3, x4, x5 => (if x3 ≤ x5 then (fb_X0_unlikeRows_105 S M k25 x0 x1 x2 x3 x4) else (if x4 = 0 then (fb_X0_unlikeRows_105 S M k25 x0 x1 x2 x3 x4) else (if (x5 - x5 / (2 : Int32) * (2 : Int32)) = (1 : Int32) then (fb_X0_unlikeRows_67 S M (fb_X0_unlikeRows_38 S M k25 t) x0 x1 x2 x3 x5 (1 : Int32) (x5 / (2 : Int32)) x0) else (fb_X0_unlikeRows_67 S M (fb_X0_unlikeRows_38 S M k25 t) x0 x1 x2 x3 x5 (0 : Int32) (x5 / (2 : Int32)) x0))))
theorem b_X0_unlikeRows_38 {r : Int32} (X : mCx D n0 P p m c cX0_unlikeRows 6 s args yX0_unlikeRows.cls meth (some .int)) (k25 : Nat → Int32 → Int32 → Int32 → Option Int32) (hk25 : ∀ (x0 : Nat) (x1 : Int32) (x2 : Int32) (x3 : Int32) (H : Heap) (locs : List Loc) (ls : Array Slot), mHp D n0 S M n s H locs → lv_has ls 6 [(0, .ref x0), (1, .int x1), (2, .int x2), (3, .int x3)] → k25 x0 x1 x2 x3 = some r → W p l e Rm_X0_unlikeRows s m args below meth c H locs 0 0 (MQ below (mQ D n0 (some (.int r)) S M n) args s 0 0 (mA n0)) (F0 m 25 ls [])) : ∀ t : Nat, ∀ (x0 : Nat) (x1 : Int32) (x2 : Int32) (x3 : Int32) (x4 : Int32) (x5 : Int32) (H : Heap) (locs : List Loc) (ls : Array Slot), mHp D n0 S M n s H locs → lv_has ls 6 [(0, .ref x0), (1, .int x1), (2, .int x2), (3, .int x3), (4, .int x4), (5, .int x5)] → fb_X0_unlikeRows_38 S M k25 t x0 x1 x2 x3 x4 x5 = some r → W p l e Rm_X0_unlikeRows s m args below meth c H locs 0 0 (MQ below (mQ D n0 (some (.int r)) S M n) args s 0 0 (mA n0)) (F0 m 38 ls []) := by
  have hx := X.1.1
  have hb := X.1.2.1
  have hown := X.1.2.2.2.1
  have hts := X.1.2.2.2.2
  intro t
  induction t with
  | zero =>
    intro x0 x1 x2 x3 x4 x5 H locs ls hp hl hF
    have hF : none = some r := hF
    cases hF
  | succ t ih =>
    intro x0 x1 x2 x3 x4 x5 H locs ls hp hl hF
    rw [fb_X0_unlikeRows_38] at hF
    refine lv_iload hx hb dX0_unlikeRows_38 (lv_at hl 5 rfl) ?_
    refine lv_iload_n hx hb dX0_unlikeRows_40 rfl (lv_at hl 3 rfl) ?_
    refine lv_icmp_ge (tgt := 105) hx hb dX0_unlikeRows_41 (by decide) (fun c17 => ?_) (fun c17 => ?_)
    · have hF := if_p c17 hF
      exact b_X0_unlikeRows_105 X _ hk25 _ _ _ _ _ _ _ _ hp (lv_sub hl [0, 1, 2, 3, 4] rfl) hF
    · have hF := if_n c17 hF
      refine lv_iload hx hb dX0_unlikeRows_44 (lv_at hl 4 rfl) ?_
      refine lv_if_eq (tgt := 105) hx hb dX0_unlikeRows_46 (by decide) (fun c18 => ?_) (fun c18 => ?_)
      · have hF := if_p c18 hF
        exact b_X0_unlikeRows_105 X _ hk25 _ _ _ _ _ _ _ _ hp (lv_sub hl [0, 1, 2, 3, 4] rfl) hF
      · have hF := if_n c18 hF
        refine lv_aload_n hx hb dX0_unlikeRows_49 rfl (lv_at hl 0 rfl) ?_
        refine lv_iload hx hb dX0_unlikeRows_50 (lv_at hl 5 rfl) ?_
        refine lv_iconst (v := 2) hx hb dX0_unlikeRows_52 (by decide) ?_
        refine lv_idiv hx hb dX0_unlikeRows_53 (by decide) ?_
        refine lv_iload hx hb dX0_unlikeRows_54 (lv_at hl 5 rfl) ?_
        refine lv_iconst (v := 2) hx hb dX0_unlikeRows_56 (by decide) ?_
        refine lv_irem hx hb dX0_unlikeRows_57 (by decide) ?_
        refine lv_iconst (v := 1) hx hb dX0_unlikeRows_58 (by decide) ?_
        refine lv_icmp_ne (tgt := 66) hx hb dX0_unlikeRows_59 (by decide) (fun c19 => ?_) (fun c19 => ?_)
        · have hF := if_n c19 hF
          refine lv_iconst (v := 0) hx hb dX0_unlikeRows_66 (by decide) ?_
          exact b_X0_unlikeRows_67 X _ ih _ _ _ _ _ _ _ _ _ _ _ hp (lv_sub hl [0, 1, 2, 3, 5] rfl) hF
        · have hF := if_p c19 hF
          refine lv_iconst (v := 1) hx hb dX0_unlikeRows_62 (by decide) ?_
          refine lv_goto (tgt := 67) hx hb dX0_unlikeRows_63 (by decide) ?_
          exact b_X0_unlikeRows_67 X _ ih _ _ _ _ _ _ _ _ _ _ _ hp (lv_sub hl [0, 1, 2, 3, 5] rfl) hF
def fb_X0_unlikeRows_25 (S : mSh) (M : mMm) : Nat → Nat → Int32 → Int32 → Int32 → Option Int32
  | 0, _, _, _, _ => none
  | t + 1, x0, x1, x2, x3 => (if ((2 : Int32) * x1) ≤ x3 then some x2 else nm ((1 : Int32)) fun v13 => nm ((0 : Int32)) fun v15 => (fb_X0_unlikeRows_38 S M (fb_X0_unlikeRows_25 S M t) FU x0 x1 x2 x3 v13 v15))
theorem b_X0_unlikeRows_25 {r : Int32} (X : mCx D n0 P p m c cX0_unlikeRows 6 s args yX0_unlikeRows.cls meth (some .int)) : ∀ t : Nat, ∀ (x0 : Nat) (x1 : Int32) (x2 : Int32) (x3 : Int32) (H : Heap) (locs : List Loc) (ls : Array Slot), mHp D n0 S M n s H locs → lv_has ls 6 [(0, .ref x0), (1, .int x1), (2, .int x2), (3, .int x3)] → fb_X0_unlikeRows_25 S M t x0 x1 x2 x3 = some r → W p l e Rm_X0_unlikeRows s m args below meth c H locs 0 0 (MQ below (mQ D n0 (some (.int r)) S M n) args s 0 0 (mA n0)) (F0 m 25 ls []) := by
  have hx := X.1.1
  have hb := X.1.2.1
  have hown := X.1.2.2.2.1
  have hts := X.1.2.2.2.2
  intro t
  induction t with
  | zero =>
    intro x0 x1 x2 x3 H locs ls hp hl hF
    have hF : none = some r := hF
    cases hF
  | succ t ih =>
    intro x0 x1 x2 x3 H locs ls hp hl hF
    rw [fb_X0_unlikeRows_25] at hF
    refine lv_iload_n hx hb dX0_unlikeRows_25 rfl (lv_at hl 3 rfl) ?_
    refine lv_iconst (v := 2) hx hb dX0_unlikeRows_26 (by decide) ?_
    refine lv_iload_n hx hb dX0_unlikeRows_27 rfl (lv_at hl 1 rfl) ?_
    refine lv_imul hx hb dX0_unlikeRows_28 ?_
    refine lv_icmp_ge (tgt := 124) hx hb dX0_unlikeRows_29 (by decide) (fun c12 => ?_) (fun c12 => ?_)
    · have hF := if_p c12 hF
      refine lv_iload_n hx hb dX0_unlikeRows_124 rfl (lv_at hl 2 rfl) ?_
      cases hF
      exact m_iret X hp dX0_unlikeRows_125
    · have hF := if_n c12 hF
      refine lv_iconst (v := 1) hx hb dX0_unlikeRows_32 (by decide) ?_
      refine lv_topi (fun v13 ev14 => ?_)
      have hF := nm_s hF ev14
      refine lv_istore (lv' := [(4, .int v13), (0, .ref x0), (1, .int x1), (2, .int x2), (3, .int x3)]) hx hb dX0_unlikeRows_33 hl (by decide) rfl (fun ls hl => ?_)
      refine lv_iconst (v := 0) hx hb dX0_unlikeRows_35 (by decide) ?_
      refine lv_topi (fun v15 ev16 => ?_)
      have hF := nm_s hF ev16
      refine lv_istore (lv' := [(5, .int v15), (4, .int v13), (0, .ref x0), (1, .int x1), (2, .int x2), (3, .int x3)]) hx hb dX0_unlikeRows_36 hl (by decide) rfl (fun ls hl => ?_)
      exact b_X0_unlikeRows_38 X _ ih _ _ _ _ _ _ _ _ _ _ hp (lv_sub hl [2, 3, 4, 5, 1, 0] rfl) hF
def fb_X0_unlikeRows_22 (S : mSh) (M : mMm) (x0 : Nat) (x1 : Int32) (y0 : Int32) : Option Int32 := nm ((0 : Int32)) fun v10 => (fb_X0_unlikeRows_25 S M FU x0 x1 y0 v10)
theorem b_X0_unlikeRows_22 {r : Int32} (X : mCx D n0 P p m c cX0_unlikeRows 6 s args yX0_unlikeRows.cls meth (some .int)) : ∀ (x0 : Nat) (x1 : Int32) (y0 : Int32) (H : Heap) (locs : List Loc) (ls : Array Slot), mHp D n0 S M n s H locs → lv_has ls 6 [(0, .ref x0), (1, .int x1)] → fb_X0_unlikeRows_22 S M x0 x1 y0 = some r → W p l e Rm_X0_unlikeRows s m args below meth c H locs 0 0 (MQ below (mQ D n0 (some (.int r)) S M n) args s 0 0 (mA n0)) (F0 m 22 ls [.int y0]) := by
  have hx := X.1.1
  have hb := X.1.2.1
  have hown := X.1.2.2.2.1
  have hts := X.1.2.2.2.2
  intro x0 x1 y0 H locs ls hp hl hF
  unfold fb_X0_unlikeRows_22 at hF
  refine lv_istore_n (lv' := [(2, .int y0), (0, .ref x0), (1, .int x1)]) hx hb dX0_unlikeRows_22 rfl hl (by decide) rfl (fun ls hl => ?_)
  refine lv_iconst (v := 0) hx hb dX0_unlikeRows_23 (by decide) ?_
  refine lv_topi (fun v10 ev11 => ?_)
  have hF := nm_s hF ev11
  refine lv_istore_n (lv' := [(3, .int v10), (2, .int y0), (0, .ref x0), (1, .int x1)]) hx hb dX0_unlikeRows_24 rfl hl (by decide) rfl (fun ls hl => ?_)
  exact b_X0_unlikeRows_25 X _ _ _ _ _ _ _ _ hp (lv_sub hl [2, 3, 1, 0] rfl) hF
def f_X0_unlikeRows (S : mSh) (M : mMm) (x0 : Nat) : Option Int32 := ob (rR S M x0 1 4) fun v1 => ob (rR S M v1 2 4) fun v3 => ob (aR S M v3 105 (0 : Int32)) fun v5 => ob (rI S M v5 4 1) fun v7 => (if v7 = 0 then (fb_X0_unlikeRows_22 S M x0 v7 (1 : Int32)) else (fb_X0_unlikeRows_22 S M x0 v7 (0 : Int32)))
theorem w_X0_unlikeRows {x0 : Nat} {r : Int32} (hF : f_X0_unlikeRows S M x0 = some r) : mCt l D n0 P yX0_unlikeRows cX0_unlikeRows 6 (some .int) 3 69 0 0 [.ref x0] S M n (some (.int r)) S M n := by
  refine m_ofW (by decide) (Nat.le_of_ble_eq_true rfl) (fun p e s m below meth c X hnm hp ls hl => ?_)
  have hx := X.1.1
  have hb := X.1.2.1
  have hown := X.1.2.2.2.1
  have hts := X.1.2.2.2.2
  have hl : lv_has ls 6 [(0, .ref x0)] := hl
  unfold f_X0_unlikeRows at hF
  refine lv_aload_n hx hb dX0_unlikeRows_0 rfl (lv_at hl 0 rfl) ?_
  obtain ⟨v1, e2, hF⟩ := ob_s hF
  refine m_getR X hp e2 kX0 (Nat.le_of_ble_eq_true rfl) q463 dX0_unlikeRows_1 ?_
  obtain ⟨v3, e4, hF⟩ := ob_s hF
  refine m_getRN X hp e4 kX1 (Nat.le_of_ble_eq_true rfl) q384 dX0_unlikeRows_4 ?_
  refine lv_iconst (v := 0) hx hb dX0_unlikeRows_7 (by decide) ?_
  obtain ⟨v5, e6, hF⟩ := ob_s hF
  refine m_aaR 105 X hp e6 rfl (by decide) rfl dX0_unlikeRows_8 ?_
  obtain ⟨v7, e8, hF⟩ := ob_s hF
  refine m_getIN X hp e8 kX3 (Nat.le_of_ble_eq_true rfl) q214 dX0_unlikeRows_9 ?_
  refine lv_istore_n (lv' := [(1, .int v7), (0, .ref x0)]) hx hb dX0_unlikeRows_12 rfl hl (by decide) rfl (fun ls hl => ?_)
  refine lv_iload_n hx hb dX0_unlikeRows_13 rfl (lv_at hl 0 rfl) ?_
  refine lv_if_ne (tgt := 21) hx hb dX0_unlikeRows_14 (by decide) (fun c9 => ?_) (fun c9 => ?_)
  · have hF := if_n c9 hF
    refine lv_iconst (v := 0) hx hb dX0_unlikeRows_21 (by decide) ?_
    exact b_X0_unlikeRows_22 X _ _ _ _ _ _ hp (lv_sub hl [1, 0] rfl) hF
  · have hF := if_p c9 hF
    refine lv_iconst (v := 1) hx hb dX0_unlikeRows_17 (by decide) ?_
    refine lv_goto (tgt := 22) hx hb dX0_unlikeRows_18 (by decide) ?_
    exact b_X0_unlikeRows_22 X _ _ _ _ _ _ hp (lv_sub hl [1, 0] rfl) hF
end
section
variable {l : Launch} {D : va_G} {n0 : Nat} {P : mP} {S : mSh} {M : mMm} {n : Nat} {p : Program} {e : Env} {s : State} {m : MethodId} {args : Array Value} {below : List Frame} {meth : Method} {c : Code}
abbrev Rm_X0_one : Room := { frames := 4, cells := 0, slots := 0, locals := 94 }
def fb_X0_one_54 (S : mSh) (M : mMm) : Nat → Nat → Int32 → Int32 → Option Int32
  | 0, _, _, _ => none
  | t + 1, x0, x2, x3 => (if x2 ≤ x3 then (if x2 = 0 then some (1 : Int32) else some (0 : Int32)) else gd ((S x0).1 = 1) (ob (f_X0_isSecond S M x0 x3 (0 : Int32)) fun v31 => (if v31 = 0 then ob (f_X0_isSecond S M x0 x3 (1 : Int32)) fun v34 => (if v34 = 0 then nm (x3 + (1 : Int32)) fun v36 => (fb_X0_one_54 S M t x0 x2 v36) else some (1 : Int32)) else some (1 : Int32))))
theorem b_X0_one_54 {r : Int32} (X : mCx D n0 P p m c cX0_one 4 s args yX0_one.cls meth (some .int)) : ∀ t : Nat, ∀ (x0 : Nat) (x2 : Int32) (x3 : Int32) (H : Heap) (locs : List Loc) (ls : Array Slot), mHp D n0 S M n s H locs → lv_has ls 4 [(0, .ref x0), (2, .int x2), (3, .int x3)] → fb_X0_one_54 S M t x0 x2 x3 = some r → W p l e Rm_X0_one s m args below meth c H locs 0 0 (MQ below (mQ D n0 (some (.int r)) S M n) args s 0 0 (mA n0)) (F0 m 54 ls []) := by
  have hx := X.1.1
  have hb := X.1.2.1
  have hown := X.1.2.2.2.1
  have hts := X.1.2.2.2.2
  intro t
  induction t with
  | zero =>
    intro x0 x2 x3 H locs ls hp hl hF
    have hF : none = some r := hF
    cases hF
  | succ t ih =>
    intro x0 x2 x3 H locs ls hp hl hF
    rw [fb_X0_one_54] at hF
    refine lv_iload_n hx hb dX0_one_54 rfl (lv_at hl 2 rfl) ?_
    refine lv_iload_n hx hb dX0_one_55 rfl (lv_at hl 1 rfl) ?_
    refine lv_icmp_ge (tgt := 85) hx hb dX0_one_56 (by decide) (fun c27 => ?_) (fun c27 => ?_)
    · have hF := if_p c27 hF
      refine lv_iload_n hx hb dX0_one_85 rfl (lv_at hl 1 rfl) ?_
      refine lv_if_ne (tgt := 93) hx hb dX0_one_86 (by decide) (fun c28 => ?_) (fun c28 => ?_)
      · have hF := if_n c28 hF
        refine lv_iconst (v := 0) hx hb dX0_one_93 (by decide) ?_
        cases hF
        exact m_iret X hp dX0_one_94
      · have hF := if_p c28 hF
        refine lv_iconst (v := 1) hx hb dX0_one_89 (by decide) ?_
        refine lv_goto (tgt := 94) hx hb dX0_one_90 (by decide) ?_
        cases hF
        exact m_iret X hp dX0_one_94
    · have hF := if_n c27 hF
      refine lv_aload_n hx hb dX0_one_59 rfl (lv_at hl 0 rfl) ?_
      refine lv_iload_n hx hb dX0_one_60 rfl (lv_at hl 2 rfl) ?_
      refine lv_iconst (v := 0) hx hb dX0_one_61 (by decide) ?_
      obtain ⟨g29, hF⟩ := gd_s hF
      obtain ⟨v31, e30, hF⟩ := ob_s hF
      refine m_callV (As := [.int x3, .int (0 : Int32)]) (rest := []) X hp (w_X0_isSecond e30) q1308 q1310 qs51 q132 q1311 2 rfl ds_X0_isSecond ⟨Nat.le_of_ble_eq_true rfl, Nat.le_of_ble_eq_true rfl⟩ 1 (T := TX0) (N := 30) rfl (by decide) g29 hl.1 rfl (Nat.le_of_ble_eq_true rfl) dX0_one_62 ⟨Nat.le_refl 0, Nat.le_refl 0⟩ (fun H locs hp => ?_)
      refine lv_if_ne (tgt := 77) hx hb dX0_one_65 (by decide) (fun c32 => ?_) (fun c32 => ?_)
      · have hF := if_n c32 hF
        refine lv_iconst (v := 1) hx hb dX0_one_77 (by decide) ?_
        cases hF
        exact m_iret X hp dX0_one_78
      · have hF := if_p c32 hF
        refine lv_aload_n hx hb dX0_one_68 rfl (lv_at hl 0 rfl) ?_
        refine lv_iload_n hx hb dX0_one_69 rfl (lv_at hl 2 rfl) ?_
        refine lv_iconst (v := 1) hx hb dX0_one_70 (by decide) ?_
        obtain ⟨v34, e33, hF⟩ := ob_s hF
        refine m_callV (As := [.int x3, .int (1 : Int32)]) (rest := []) X hp (w_X0_isSecond e33) q1308 q1310 qs51 q132 q1311 2 rfl ds_X0_isSecond ⟨Nat.le_of_ble_eq_true rfl, Nat.le_of_ble_eq_true rfl⟩ 1 (T := TX0) (N := 30) rfl (by decide) g29 hl.1 rfl (Nat.le_of_ble_eq_true rfl) dX0_one_71 ⟨Nat.le_refl 0, Nat.le_refl 0⟩ (fun H locs hp => ?_)
        refine lv_if_eq (tgt := 79) hx hb dX0_one_74 (by decide) (fun c35 => ?_) (fun c35 => ?_)
        · have hF := if_p c35 hF
          obtain ⟨v36, ev37⟩ : ∃ y : Int32, y = x3 + (1 : Int32) := ⟨_, rfl⟩
          have hF := nm_s hF ev37
          refine lv_iinc (v := v36) (lv' := [(3, .int v36), (0, .ref x0), (2, .int x2)]) hx hb dX0_one_79 hl (k := 2) rfl (by rw [ev37]; rfl) (by decide) rfl (fun ls hl => ?_)
          refine lv_goto (tgt := 54) hx hb dX0_one_82 (by decide) ?_
          exact ih _ _ _ _ _ _ hp (lv_sub hl [1, 2, 0] rfl) hF
        · have hF := if_n c35 hF
          refine lv_iconst (v := 1) hx hb dX0_one_77 (by decide) ?_
          cases hF
          exact m_iret X hp dX0_one_78
def f_X0_one (S : mSh) (M : mMm) (x0 : Nat) (x1 : Int32) : Option Int32 := ob (f_X0_isIn x1 (0 : Int32) (1 : Int32)) fun v2 => (if v2 = 0 then some (-1 : Int32) else (if x1 = (1 : Int32) then gd ((S x0).1 = 1) (ob (f_X0_unlikeRows S M x0) fun v26 => some v26) else ob (rR S M x0 1 4) fun v5 => ob (rR S M v5 2 4) fun v7 => ob (aR S M v7 105 (0 : Int32)) fun v9 => ob (rI S M v9 4 1) fun v11 => ob (rR S M x0 1 4) fun v13 => ob (rR S M v13 2 4) fun v15 => ob (aR S M v15 105 (1 : Int32)) fun v17 => ob (rI S M v17 4 1) fun v19 => (if v11 = v19 then nm ((0 : Int32)) fun v22 => (fb_X0_one_54 S M FU x0 v11 v22) else some (0 : Int32))))
theorem w_X0_one {x0 : Nat} {x1 : Int32} {r : Int32} (hF : f_X0_one S M x0 x1 = some r) : mCt l D n0 P yX0_one cX0_one 4 (some .int) 4 94 0 0 [.ref x0, .int x1] S M n (some (.int r)) S M n := by
  refine m_ofW (by decide) (Nat.le_of_ble_eq_true rfl) (fun p e s m below meth c X hnm hp ls hl => ?_)
  have hx := X.1.1
  have hb := X.1.2.1
  have hown := X.1.2.2.2.1
  have hts := X.1.2.2.2.2
  have hl : lv_has ls 4 [(0, .ref x0), (1, .int x1)] := hl
  unfold f_X0_one at hF
  refine lv_iload_n hx hb dX0_one_0 rfl (lv_at hl 1 rfl) ?_
  refine lv_iconst (v := 0) hx hb dX0_one_1 (by decide) ?_
  refine lv_iconst (v := 1) hx hb dX0_one_2 (by decide) ?_
  obtain ⟨v2, e1, hF⟩ := ob_s hF
  refine m_callS (As := [.int x1, .int (0 : Int32), .int (1 : Int32)]) (rest := []) X hp (w_X0_isIn e1) q565 q566 q132 q567 3 rfl ds_X0_isIn ⟨Nat.le_of_ble_eq_true rfl, Nat.le_of_ble_eq_true rfl⟩ hl.1 rfl (Nat.le_of_ble_eq_true rfl) dX0_one_3 ⟨Nat.le_refl 0, Nat.le_refl 0⟩ (fun H locs hp => ?_)
  refine lv_if_ne (tgt := 11) hx hb dX0_one_6 (by decide) (fun c3 => ?_) (fun c3 => ?_)
  · have hF := if_n c3 hF
    refine lv_iload_n hx hb dX0_one_11 rfl (lv_at hl 1 rfl) ?_
    refine lv_iconst (v := 1) hx hb dX0_one_12 (by decide) ?_
    refine lv_icmp_ne (tgt := 21) hx hb dX0_one_13 (by decide) (fun c4 => ?_) (fun c4 => ?_)
    · have hF := if_n c4 hF
      refine lv_aload_n hx hb dX0_one_21 rfl (lv_at hl 0 rfl) ?_
      obtain ⟨v5, e6, hF⟩ := ob_s hF
      refine m_getR X hp e6 kX0 (Nat.le_of_ble_eq_true rfl) q463 dX0_one_22 ?_
      obtain ⟨v7, e8, hF⟩ := ob_s hF
      refine m_getRN X hp e8 kX1 (Nat.le_of_ble_eq_true rfl) q384 dX0_one_25 ?_
      refine lv_iconst (v := 0) hx hb dX0_one_28 (by decide) ?_
      obtain ⟨v9, e10, hF⟩ := ob_s hF
      refine m_aaR 105 X hp e10 rfl (by decide) rfl dX0_one_29 ?_
      obtain ⟨v11, e12, hF⟩ := ob_s hF
      refine m_getIN X hp e12 kX3 (Nat.le_of_ble_eq_true rfl) q214 dX0_one_30 ?_
      refine lv_istore_n (lv' := [(2, .int v11), (0, .ref x0), (1, .int x1)]) hx hb dX0_one_33 rfl hl (by decide) rfl (fun ls hl => ?_)
      refine lv_iload_n hx hb dX0_one_34 rfl (lv_at hl 0 rfl) ?_
      refine lv_aload_n hx hb dX0_one_35 rfl (lv_at hl 1 rfl) ?_
      obtain ⟨v13, e14, hF⟩ := ob_s hF
      refine m_getR X hp e14 kX0 (Nat.le_of_ble_eq_true rfl) q463 dX0_one_36 ?_
      obtain ⟨v15, e16, hF⟩ := ob_s hF
      refine m_getRN X hp e16 kX1 (Nat.le_of_ble_eq_true rfl) q384 dX0_one_39 ?_
      refine lv_iconst (v := 1) hx hb dX0_one_42 (by decide) ?_
      obtain ⟨v17, e18, hF⟩ := ob_s hF
      refine m_aaR 105 X hp e18 rfl (by decide) rfl dX0_one_43 ?_
      obtain ⟨v19, e20, hF⟩ := ob_s hF
      refine m_getIN X hp e20 kX3 (Nat.le_of_ble_eq_true rfl) q214 dX0_one_44 ?_
      refine lv_icmp_eq (tgt := 52) hx hb dX0_one_47 (by decide) (fun c21 => ?_) (fun c21 => ?_)
      · have hF := if_p c21 hF
        refine lv_iconst (v := 0) hx hb dX0_one_52 (by decide) ?_
        refine lv_topi (fun v22 ev23 => ?_)
        have hF := nm_s hF ev23
        refine lv_istore_n (lv' := [(3, .int v22), (2, .int v11), (0, .ref x0), (1, .int x1)]) hx hb dX0_one_53 rfl hl (by decide) rfl (fun ls hl => ?_)
        exact b_X0_one_54 X _ _ _ _ _ _ _ hp (lv_sub hl [2, 1, 0] rfl) hF
      · have hF := if_n c21 hF
        refine lv_iconst (v := 0) hx hb dX0_one_50 (by decide) ?_
        cases hF
        exact m_iret X hp dX0_one_51
    · have hF := if_p c4 hF
      refine lv_aload_n hx hb dX0_one_16 rfl (lv_at hl 0 rfl) ?_
      obtain ⟨g24, hF⟩ := gd_s hF
      obtain ⟨v26, e25, hF⟩ := ob_s hF
      refine m_callV (As := []) (rest := []) X hp (w_X0_unlikeRows e25) q1292 q1294 qs48 q132 q1295 0 rfl ds_X0_unlikeRows ⟨Nat.le_of_ble_eq_true rfl, Nat.le_of_ble_eq_true rfl⟩ 1 (T := TX0) (N := 30) rfl (by decide) g24 hl.1 rfl (Nat.le_of_ble_eq_true rfl) dX0_one_17 ⟨Nat.le_refl 0, Nat.le_refl 0⟩ (fun H locs hp => ?_)
      cases hF
      exact m_iret X hp dX0_one_20
  · have hF := if_p c3 hF
    refine lv_iconst (v := -1) hx hb dX0_one_9 (by decide) ?_
    cases hF
    exact m_iret X hp dX0_one_10
end
section
variable {l : Launch} {D : va_G} {n0 : Nat} {P : mP} {S : mSh} {M : mMm} {n : Nat} {p : Program} {e : Env} {s : State} {m : MethodId} {args : Array Value} {below : List Frame} {meth : Method} {c : Code}
abbrev Rm_X0_oneMore : Room := { frames := 3, cells := 0, slots := 0, locals := 66 }
def fb_X0_oneMore_255 (S : mSh) (k25 : mMm → Nat → Int32 → Int32 → Int32 → Int32 → Option mMm) (M : mMm) (x0 : Nat) (x1 : Int32) (x2 : Int32) (x3 : Int32) (x4 : Int32) : Option mMm := nm (x4 + (1 : Int32)) fun v58 => (k25 M x0 x1 x2 x3 v58)
theorem b_X0_oneMore_255 {M' : mMm} (X : mCx D n0 P p m c cX0_oneMore 7 s args yX0_oneMore.cls meth none) (k25 : mMm → Nat → Int32 → Int32 → Int32 → Int32 → Option mMm) (hk25 : ∀ (M : mMm) (x0 : Nat) (x1 : Int32) (x2 : Int32) (x3 : Int32) (x4 : Int32) (H : Heap) (locs : List Loc) (ls : Array Slot), mHp D n0 S M n s H locs → lv_has ls 7 [(0, .ref x0), (1, .int x1), (2, .int x2), (3, .int x3), (4, .int x4)] → k25 M x0 x1 x2 x3 x4 = some M' → W p l e Rm_X0_oneMore s m args below meth c H locs 0 0 (MQ below (mQ D n0 none S M' n) args s 0 0 (mA n0)) (F0 m 25 ls [])) : ∀ (M : mMm) (x0 : Nat) (x1 : Int32) (x2 : Int32) (x3 : Int32) (x4 : Int32) (H : Heap) (locs : List Loc) (ls : Array Slot), mHp D n0 S M n s H locs → lv_has ls 7 [(0, .ref x0), (1, .int x1), (2, .int x2), (3, .int x3), (4, .int x4)] → fb_X0_oneMore_255 S k25 M x0 x1 x2 x3 x4 = some M' → W p l e Rm_X0_oneMore s m args below meth c H locs 0 0 (MQ below (mQ D n0 none S M' n) args s 0 0 (mA n0)) (F0 m 255 ls []) := by
  have hx := X.1.1
  have hb := X.1.2.1
  have hown := X.1.2.2.2.1
  have hts := X.1.2.2.2.2
  intro M x0 x1 x2 x3 x4 H locs ls hp hl hF
  unfold fb_X0_oneMore_255 at hF
  obtain ⟨v58, ev59⟩ : ∃ y : Int32, y = x4 + (1 : Int32) := ⟨_, rfl⟩
  have hF := nm_s hF ev59
  refine lv_iinc (v := v58) (lv' := [(4, .int v58), (0, .ref x0), (1, .int x1), (2, .int x2), (3, .int x3)]) hx hb dX0_oneMore_255 hl (k := 4) rfl (by rw [ev59]; rfl) (by decide) rfl (fun ls hl => ?_)
  refine lv_goto (tgt := 25) hx hb dX0_oneMore_258 (by decide) ?_
  exact hk25 _ _ _ _ _ _ _ _ _ hp (lv_sub hl [1, 2, 3, 4, 0] rfl) hF
def fb_X0_oneMore_190 (S : mSh) (k25 : mMm → Nat → Int32 → Int32 → Int32 → Int32 → Option mMm) (M : mMm) (x0 : Nat) (x1 : Int32) (x2 : Int32) (x3 : Int32) (x4 : Int32) (x5 : Int32) : Option mMm := (if x1 ≤ x3 then (fb_X0_oneMore_255 S k25 M x0 x1 x2 x3 x4) else (if x2 = (1 : Int32) then (fb_X0_oneMore_255 S k25 M x0 x1 x2 x3 x4) else ob (rR S M x0 1 14) fun v80 => ob (aR S M v80 109 (2 : Int32)) fun v82 => ob (aR S M v82 108 (x3 + (1 : Int32))) fun v84 => ob (rR S M x0 1 14) fun v86 => ob (aR S M v86 109 (2 : Int32)) fun v88 => ob (aR S M v88 108 (x3 + (1 : Int32))) fun v90 => ob (aI S M v90 100 (((x4 / (4 : Int32)) * (4 : Int32)) + ((x4 + (3 : Int32)) - (x4 + (3 : Int32)) / (4 : Int32) * (4 : Int32)))) fun v92 => ob (wA S M v84 100 (((x4 / (4 : Int32)) * (4 : Int32)) + ((x4 + (3 : Int32)) - (x4 + (3 : Int32)) / (4 : Int32) * (4 : Int32))) (.int ((v92 + x5) - (v92 + x5) / (1000000007 : Int32) * (1000000007 : Int32)))) fun M94 => (fb_X0_oneMore_255 S k25 M94 x0 x1 x2 x3 x4)))
theorem b_X0_oneMore_190 {M' : mMm} (X : mCx D n0 P p m c cX0_oneMore 7 s args yX0_oneMore.cls meth none) (k25 : mMm → Nat → Int32 → Int32 → Int32 → Int32 → Option mMm) (hk25 : ∀ (M : mMm) (x0 : Nat) (x1 : Int32) (x2 : Int32) (x3 : Int32) (x4 : Int32) (H : Heap) (locs : List Loc) (ls : Array Slot), mHp D n0 S M n s H locs → lv_has ls 7 [(0, .ref x0), (1, .int x1), (2, .int x2), (3, .int x3), (4, .int x4)] → k25 M x0 x1 x2 x3 x4 = some M' → W p l e Rm_X0_oneMore s m args below meth c H locs 0 0 (MQ below (mQ D n0 none S M' n) args s 0 0 (mA n0)) (F0 m 25 ls [])) : ∀ (M : mMm) (x0 : Nat) (x1 : Int32) (x2 : Int32) (x3 : Int32) (x4 : Int32) (x5 : Int32) (H : Heap) (locs : List Loc) (ls : Array Slot), mHp D n0 S M n s H locs → lv_has ls 7 [(0, .ref x0), (1, .int x1), (2, .int x2), (3, .int x3), (4, .int x4), (5, .int x5)] → fb_X0_oneMore_190 S k25 M x0 x1 x2 x3 x4 x5 = some M' → W p l e Rm_X0_oneMore s m args below meth c H locs 0 0 (MQ below (mQ D n0 none S M' n) args s 0 0 (mA n0)) (F0 m 190 ls []) := by
  have hx := X.1.1
  have hb := X.1.2.1
  have hown := X.1.2.2.2.1
  have hts := X.1.2.2.2.2
  intro M x0 x1 x2 x3 x4 x5 H locs ls hp hl hF
  unfold fb_X0_oneMore_190 at hF
  refine lv_iload_n hx hb dX0_oneMore_190 rfl (lv_at hl 3 rfl) ?_
  refine lv_iload_n hx hb dX0_oneMore_191 rfl (lv_at hl 1 rfl) ?_
  refine lv_icmp_ge (tgt := 255) hx hb dX0_oneMore_192 (by decide) (fun c78 => ?_) (fun c78 => ?_)
  · have hF := if_p c78 hF
    exact b_X0_oneMore_255 X _ hk25 _ _ _ _ _ _ _ _ _ hp (lv_sub hl [0, 1, 2, 3, 4] rfl) hF
  · have hF := if_n c78 hF
    refine lv_iload_n hx hb dX0_oneMore_195 rfl (lv_at hl 2 rfl) ?_
    refine lv_iconst (v := 1) hx hb dX0_oneMore_196 (by decide) ?_
    refine lv_icmp_eq (tgt := 255) hx hb dX0_oneMore_197 (by decide) (fun c79 => ?_) (fun c79 => ?_)
    · have hF := if_p c79 hF
      exact b_X0_oneMore_255 X _ hk25 _ _ _ _ _ _ _ _ _ hp (lv_sub hl [0, 1, 2, 3, 4] rfl) hF
    · have hF := if_n c79 hF
      refine lv_aload_n hx hb dX0_oneMore_200 rfl (lv_at hl 0 rfl) ?_
      obtain ⟨v80, e81, hF⟩ := ob_s hF
      refine m_getR X hp e81 kX0 (Nat.le_of_ble_eq_true rfl) q474 dX0_oneMore_201 ?_
      refine lv_iconst (v := 2) hx hb dX0_oneMore_204 (by decide) ?_
      obtain ⟨v82, e83, hF⟩ := ob_s hF
      refine m_aaR 109 X hp e83 rfl (by decide) rfl dX0_oneMore_205 ?_
      refine lv_iload_n hx hb dX0_oneMore_206 rfl (lv_at hl 3 rfl) ?_
      refine lv_iconst (v := 1) hx hb dX0_oneMore_207 (by decide) ?_
      refine lv_iadd hx hb dX0_oneMore_208 ?_
      obtain ⟨v84, e85, hF⟩ := ob_s hF
      refine m_aaR 108 X hp e85 rfl (by decide) rfl dX0_oneMore_209 ?_
      refine lv_iload hx hb dX0_oneMore_210 (lv_at hl 4 rfl) ?_
      refine lv_iconst (v := 4) hx hb dX0_oneMore_212 (by decide) ?_
      refine lv_idiv hx hb dX0_oneMore_213 (by decide) ?_
      refine lv_iconst (v := 4) hx hb dX0_oneMore_214 (by decide) ?_
      refine lv_imul hx hb dX0_oneMore_215 ?_
      refine lv_iload hx hb dX0_oneMore_216 (lv_at hl 4 rfl) ?_
      refine lv_iconst (v := 3) hx hb dX0_oneMore_218 (by decide) ?_
      refine lv_iadd hx hb dX0_oneMore_219 ?_
      refine lv_iconst (v := 4) hx hb dX0_oneMore_220 (by decide) ?_
      refine lv_irem hx hb dX0_oneMore_221 (by decide) ?_
      refine lv_iadd hx hb dX0_oneMore_222 ?_
      refine lv_aload_n hx hb dX0_oneMore_223 rfl (lv_at hl 0 rfl) ?_
      obtain ⟨v86, e87, hF⟩ := ob_s hF
      refine m_getR X hp e87 kX0 (Nat.le_of_ble_eq_true rfl) q474 dX0_oneMore_224 ?_
      refine lv_iconst (v := 2) hx hb dX0_oneMore_227 (by decide) ?_
      obtain ⟨v88, e89, hF⟩ := ob_s hF
      refine m_aaR 109 X hp e89 rfl (by decide) rfl dX0_oneMore_228 ?_
      refine lv_iload_n hx hb dX0_oneMore_229 rfl (lv_at hl 3 rfl) ?_
      refine lv_iconst (v := 1) hx hb dX0_oneMore_230 (by decide) ?_
      refine lv_iadd hx hb dX0_oneMore_231 ?_
      obtain ⟨v90, e91, hF⟩ := ob_s hF
      refine m_aaR 108 X hp e91 rfl (by decide) rfl dX0_oneMore_232 ?_
      refine lv_iload hx hb dX0_oneMore_233 (lv_at hl 4 rfl) ?_
      refine lv_iconst (v := 4) hx hb dX0_oneMore_235 (by decide) ?_
      refine lv_idiv hx hb dX0_oneMore_236 (by decide) ?_
      refine lv_iconst (v := 4) hx hb dX0_oneMore_237 (by decide) ?_
      refine lv_imul hx hb dX0_oneMore_238 ?_
      refine lv_iload hx hb dX0_oneMore_239 (lv_at hl 4 rfl) ?_
      refine lv_iconst (v := 3) hx hb dX0_oneMore_241 (by decide) ?_
      refine lv_iadd hx hb dX0_oneMore_242 ?_
      refine lv_iconst (v := 4) hx hb dX0_oneMore_243 (by decide) ?_
      refine lv_irem hx hb dX0_oneMore_244 (by decide) ?_
      refine lv_iadd hx hb dX0_oneMore_245 ?_
      obtain ⟨v92, e93, hF⟩ := ob_s hF
      refine m_iaI X hp e93 dX0_oneMore_246 ?_
      refine lv_iload hx hb dX0_oneMore_247 (lv_at hl 5 rfl) ?_
      refine lv_iadd hx hb dX0_oneMore_249 ?_
      refine lv_ldcw hx hb hown (hts _ q1258) dX0_oneMore_250 ?_
      refine lv_irem hx hb dX0_oneMore_253 (by decide) ?_
      obtain ⟨M94, e95, hF⟩ := ob_s hF
      refine m_iaW X hp e95 dX0_oneMore_254 (fun H locs hp => ?_)
      exact b_X0_oneMore_255 X _ hk25 _ _ _ _ _ _ _ _ _ hp (lv_sub hl [0, 1, 2, 3, 4] rfl) hF
def fb_X0_oneMore_125 (S : mSh) (k25 : mMm → Nat → Int32 → Int32 → Int32 → Int32 → Option mMm) (M : mMm) (x0 : Nat) (x1 : Int32) (x2 : Int32) (x3 : Int32) (x4 : Int32) (x5 : Int32) : Option mMm := (if x1 ≤ x3 then (fb_X0_oneMore_190 S k25 M x0 x1 x2 x3 x4 x5) else (if x2 = (2 : Int32) then (fb_X0_oneMore_190 S k25 M x0 x1 x2 x3 x4 x5) else ob (rR S M x0 1 14) fun v62 => ob (aR S M v62 109 (1 : Int32)) fun v64 => ob (aR S M v64 108 (x3 + (1 : Int32))) fun v66 => ob (rR S M x0 1 14) fun v68 => ob (aR S M v68 109 (1 : Int32)) fun v70 => ob (aR S M v70 108 (x3 + (1 : Int32))) fun v72 => ob (aI S M v72 100 (((x4 / (4 : Int32)) * (4 : Int32)) + ((x4 + (1 : Int32)) - (x4 + (1 : Int32)) / (4 : Int32) * (4 : Int32)))) fun v74 => ob (wA S M v66 100 (((x4 / (4 : Int32)) * (4 : Int32)) + ((x4 + (1 : Int32)) - (x4 + (1 : Int32)) / (4 : Int32) * (4 : Int32))) (.int ((v74 + x5) - (v74 + x5) / (1000000007 : Int32) * (1000000007 : Int32)))) fun M76 => (fb_X0_oneMore_190 S k25 M76 x0 x1 x2 x3 x4 x5)))
theorem b_X0_oneMore_125 {M' : mMm} (X : mCx D n0 P p m c cX0_oneMore 7 s args yX0_oneMore.cls meth none) (k25 : mMm → Nat → Int32 → Int32 → Int32 → Int32 → Option mMm) (hk25 : ∀ (M : mMm) (x0 : Nat) (x1 : Int32) (x2 : Int32) (x3 : Int32) (x4 : Int32) (H : Heap) (locs : List Loc) (ls : Array Slot), mHp D n0 S M n s H locs → lv_has ls 7 [(0, .ref x0), (1, .int x1), (2, .int x2), (3, .int x3), (4, .int x4)] → k25 M x0 x1 x2 x3 x4 = some M' → W p l e Rm_X0_oneMore s m args below meth c H locs 0 0 (MQ below (mQ D n0 none S M' n) args s 0 0 (mA n0)) (F0 m 25 ls [])) : ∀ (M : mMm) (x0 : Nat) (x1 : Int32) (x2 : Int32) (x3 : Int32) (x4 : Int32) (x5 : Int32) (H : Heap) (locs : List Loc) (ls : Array Slot), mHp D n0 S M n s H locs → lv_has ls 7 [(0, .ref x0), (1, .int x1), (2, .int x2), (3, .int x3), (4, .int x4), (5, .int x5)] → fb_X0_oneMore_125 S k25 M x0 x1 x2 x3 x4 x5 = some M' → W p l e Rm_X0_oneMore s m args below meth c H locs 0 0 (MQ below (mQ D n0 none S M' n) args s 0 0 (mA n0)) (F0 m 125 ls []) := by
  have hx := X.1.1
  have hb := X.1.2.1
  have hown := X.1.2.2.2.1
  have hts := X.1.2.2.2.2
  intro M x0 x1 x2 x3 x4 x5 H locs ls hp hl hF
  unfold fb_X0_oneMore_125 at hF
  refine lv_iload_n hx hb dX0_oneMore_125 rfl (lv_at hl 3 rfl) ?_
  refine lv_iload_n hx hb dX0_oneMore_126 rfl (lv_at hl 1 rfl) ?_
  refine lv_icmp_ge (tgt := 190) hx hb dX0_oneMore_127 (by decide) (fun c60 => ?_) (fun c60 => ?_)
  · have hF := if_p c60 hF
    exact b_X0_oneMore_190 X _ hk25 _ _ _ _ _ _ _ _ _ _ hp (lv_sub hl [0, 1, 2, 3, 4, 5] rfl) hF
  · have hF := if_n c60 hF
    refine lv_iload_n hx hb dX0_oneMore_130 rfl (lv_at hl 2 rfl) ?_
    refine lv_iconst (v := 2) hx hb dX0_oneMore_131 (by decide) ?_
    refine lv_icmp_eq (tgt := 190) hx hb dX0_oneMore_132 (by decide) (fun c61 => ?_) (fun c61 => ?_)
    · have hF := if_p c61 hF
      exact b_X0_oneMore_190 X _ hk25 _ _ _ _ _ _ _ _ _ _ hp (lv_sub hl [0, 1, 2, 3, 4, 5] rfl) hF
    · have hF := if_n c61 hF
      refine lv_aload_n hx hb dX0_oneMore_135 rfl (lv_at hl 0 rfl) ?_
      obtain ⟨v62, e63, hF⟩ := ob_s hF
      refine m_getR X hp e63 kX0 (Nat.le_of_ble_eq_true rfl) q474 dX0_oneMore_136 ?_
      refine lv_iconst (v := 1) hx hb dX0_oneMore_139 (by decide) ?_
      obtain ⟨v64, e65, hF⟩ := ob_s hF
      refine m_aaR 109 X hp e65 rfl (by decide) rfl dX0_oneMore_140 ?_
      refine lv_iload_n hx hb dX0_oneMore_141 rfl (lv_at hl 3 rfl) ?_
      refine lv_iconst (v := 1) hx hb dX0_oneMore_142 (by decide) ?_
      refine lv_iadd hx hb dX0_oneMore_143 ?_
      obtain ⟨v66, e67, hF⟩ := ob_s hF
      refine m_aaR 108 X hp e67 rfl (by decide) rfl dX0_oneMore_144 ?_
      refine lv_iload hx hb dX0_oneMore_145 (lv_at hl 4 rfl) ?_
      refine lv_iconst (v := 4) hx hb dX0_oneMore_147 (by decide) ?_
      refine lv_idiv hx hb dX0_oneMore_148 (by decide) ?_
      refine lv_iconst (v := 4) hx hb dX0_oneMore_149 (by decide) ?_
      refine lv_imul hx hb dX0_oneMore_150 ?_
      refine lv_iload hx hb dX0_oneMore_151 (lv_at hl 4 rfl) ?_
      refine lv_iconst (v := 1) hx hb dX0_oneMore_153 (by decide) ?_
      refine lv_iadd hx hb dX0_oneMore_154 ?_
      refine lv_iconst (v := 4) hx hb dX0_oneMore_155 (by decide) ?_
      refine lv_irem hx hb dX0_oneMore_156 (by decide) ?_
      refine lv_iadd hx hb dX0_oneMore_157 ?_
      refine lv_aload_n hx hb dX0_oneMore_158 rfl (lv_at hl 0 rfl) ?_
      obtain ⟨v68, e69, hF⟩ := ob_s hF
      refine m_getR X hp e69 kX0 (Nat.le_of_ble_eq_true rfl) q474 dX0_oneMore_159 ?_
      refine lv_iconst (v := 1) hx hb dX0_oneMore_162 (by decide) ?_
      obtain ⟨v70, e71, hF⟩ := ob_s hF
      refine m_aaR 109 X hp e71 rfl (by decide) rfl dX0_oneMore_163 ?_
      refine lv_iload_n hx hb dX0_oneMore_164 rfl (lv_at hl 3 rfl) ?_
      refine lv_iconst (v := 1) hx hb dX0_oneMore_165 (by decide) ?_
      refine lv_iadd hx hb dX0_oneMore_166 ?_
      obtain ⟨v72, e73, hF⟩ := ob_s hF
      refine m_aaR 108 X hp e73 rfl (by decide) rfl dX0_oneMore_167 ?_
      refine lv_iload hx hb dX0_oneMore_168 (lv_at hl 4 rfl) ?_
      refine lv_iconst (v := 4) hx hb dX0_oneMore_170 (by decide) ?_
      refine lv_idiv hx hb dX0_oneMore_171 (by decide) ?_
      refine lv_iconst (v := 4) hx hb dX0_oneMore_172 (by decide) ?_
      refine lv_imul hx hb dX0_oneMore_173 ?_
      refine lv_iload hx hb dX0_oneMore_174 (lv_at hl 4 rfl) ?_
      refine lv_iconst (v := 1) hx hb dX0_oneMore_176 (by decide) ?_
      refine lv_iadd hx hb dX0_oneMore_177 ?_
      refine lv_iconst (v := 4) hx hb dX0_oneMore_178 (by decide) ?_
      refine lv_irem hx hb dX0_oneMore_179 (by decide) ?_
      refine lv_iadd hx hb dX0_oneMore_180 ?_
      obtain ⟨v74, e75, hF⟩ := ob_s hF
      refine m_iaI X hp e75 dX0_oneMore_181 ?_
      refine lv_iload hx hb dX0_oneMore_182 (lv_at hl 5 rfl) ?_
      refine lv_iadd hx hb dX0_oneMore_184 ?_
      refine lv_ldcw hx hb hown (hts _ q1258) dX0_oneMore_185 ?_
      refine lv_irem hx hb dX0_oneMore_188 (by decide) ?_
      obtain ⟨M76, e77, hF⟩ := ob_s hF
      refine m_iaW X hp e77 dX0_oneMore_189 (fun H locs hp => ?_)
      exact b_X0_oneMore_190 X _ hk25 _ _ _ _ _ _ _ _ _ _ hp (lv_sub hl [0, 1, 2, 3, 4, 5] rfl) hF
def fb_X0_oneMore_25 (S : mSh) (k17 : mMm → Nat → Int32 → Int32 → Int32 → Option mMm) : Nat → mMm → Nat → Int32 → Int32 → Int32 → Int32 → Option mMm
  | 0, _, _, _, _, _, _ => none
  | t + 1, M, x0, x1, x2, x3, x4 => (if (576 : Int32) ≤ x4 then nm (x3 + (1 : Int32)) fun v25 => (k17 M x0 x1 x2 v25) else ob (rR S M x0 1 13) fun v27 => ob (aR S M v27 109 x2) fun v29 => ob (aR S M v29 108 x3) fun v31 => ob (aI S M v31 100 x4) fun v33 => (if v33 = 0 then (fb_X0_oneMore_255 S (fb_X0_oneMore_25 S k17 t) M x0 x1 x2 x3 x4) else ob (f_X0_on (x4 / (4 : Int32)) (x4 - x4 / (4 : Int32) * (4 : Int32))) fun v37 => (if v37 = (-1 : Int32) then (fb_X0_oneMore_125 S (fb_X0_oneMore_25 S k17 t) M x0 x1 x2 x3 x4 v33) else ob (f_X0_isOpen S M x0 v37) fun v40 => (if v40 = 0 then (fb_X0_oneMore_125 S (fb_X0_oneMore_25 S k17 t) M x0 x1 x2 x3 x4 v33) else ob (rR S M x0 1 14) fun v42 => ob (aR S M v42 109 (0 : Int32)) fun v44 => ob (aR S M v44 108 x3) fun v46 => ob (rR S M x0 1 14) fun v48 => ob (aR S M v48 109 (0 : Int32)) fun v50 => ob (aR S M v50 108 x3) fun v52 => ob (aI S M v52 100 (((4 : Int32) * v37) + (x4 - x4 / (4 : Int32) * (4 : Int32)))) fun v54 => ob (wA S M v46 100 (((4 : Int32) * v37) + (x4 - x4 / (4 : Int32) * (4 : Int32))) (.int ((v54 + v33) - (v54 + v33) / (1000000007 : Int32) * (1000000007 : Int32)))) fun M56 => (fb_X0_oneMore_125 S (fb_X0_oneMore_25 S k17 t) M56 x0 x1 x2 x3 x4 v33)))))
theorem b_X0_oneMore_25 {M' : mMm} (X : mCx D n0 P p m c cX0_oneMore 7 s args yX0_oneMore.cls meth none) (k17 : mMm → Nat → Int32 → Int32 → Int32 → Option mMm) (hk17 : ∀ (M : mMm) (x0 : Nat) (x1 : Int32) (x2 : Int32) (x3 : Int32) (H : Heap) (locs : List Loc) (ls : Array Slot), mHp D n0 S M n s H locs → lv_has ls 7 [(0, .ref x0), (1, .int x1), (2, .int x2), (3, .int x3)] → k17 M x0 x1 x2 x3 = some M' → W p l e Rm_X0_oneMore s m args below meth c H locs 0 0 (MQ below (mQ D n0 none S M' n) args s 0 0 (mA n0)) (F0 m 17 ls [])) : ∀ t : Nat, ∀ (M : mMm) (x0 : Nat) (x1 : Int32) (x2 : Int32) (x3 : Int32) (x4 : Int32) (H : Heap) (locs : List Loc) (ls : Array Slot), mHp D n0 S M n s H locs → lv_has ls 7 [(0, .ref x0), (1, .int x1), (2, .int x2), (3, .int x3), (4, .int x4)] → fb_X0_oneMore_25 S k17 t M x0 x1 x2 x3 x4 = some M' → W p l e Rm_X0_oneMore s m args below meth c H locs 0 0 (MQ below (mQ D n0 none S M' n) args s 0 0 (mA n0)) (F0 m 25 ls []) := by
  have hx := X.1.1
  have hb := X.1.2.1
  have hown := X.1.2.2.2.1
  have hts := X.1.2.2.2.2
  intro t
  induction t with
  | zero =>
    intro M x0 x1 x2 x3 x4 H locs ls hp hl hF
    have hF : none = some M' := hF
    cases hF
  | succ t ih =>
    intro M x0 x1 x2 x3 x4 H locs ls hp hl hF
    rw [fb_X0_oneMore_25] at hF
    refine lv_iload hx hb dX0_oneMore_25 (lv_at hl 4 rfl) ?_
    refine lv_sipush (v := 576) hx hb dX0_oneMore_27 (by decide) ?_
    refine lv_icmp_ge (tgt := 261) hx hb dX0_oneMore_30 (by decide) (fun c24 => ?_) (fun c24 => ?_)
    · have hF := if_p c24 hF
      obtain ⟨v25, ev26⟩ : ∃ y : Int32, y = x3 + (1 : Int32) := ⟨_, rfl⟩
      have hF := nm_s hF ev26
      refine lv_iinc (v := v25) (lv' := [(3, .int v25), (0, .ref x0), (1, .int x1), (2, .int x2), (4, .int x4)]) hx hb dX0_oneMore_261 hl (k := 3) rfl (by rw [ev26]; rfl) (by decide) rfl (fun ls hl => ?_)
      refine lv_goto (tgt := 17) hx hb dX0_oneMore_264 (by decide) ?_
      exact hk17 _ _ _ _ _ _ _ _ hp (lv_sub hl [1, 2, 3, 0] rfl) hF
    · have hF := if_n c24 hF
      refine lv_aload_n hx hb dX0_oneMore_33 rfl (lv_at hl 0 rfl) ?_
      obtain ⟨v27, e28, hF⟩ := ob_s hF
      refine m_getR X hp e28 kX0 (Nat.le_of_ble_eq_true rfl) q473 dX0_oneMore_34 ?_
      refine lv_iload_n hx hb dX0_oneMore_37 rfl (lv_at hl 2 rfl) ?_
      obtain ⟨v29, e30, hF⟩ := ob_s hF
      refine m_aaR 109 X hp e30 rfl (by decide) rfl dX0_oneMore_38 ?_
      refine lv_iload_n hx hb dX0_oneMore_39 rfl (lv_at hl 3 rfl) ?_
      obtain ⟨v31, e32, hF⟩ := ob_s hF
      refine m_aaR 108 X hp e32 rfl (by decide) rfl dX0_oneMore_40 ?_
      refine lv_iload hx hb dX0_oneMore_41 (lv_at hl 4 rfl) ?_
      obtain ⟨v33, e34, hF⟩ := ob_s hF
      refine m_iaI X hp e34 dX0_oneMore_43 ?_
      refine lv_istore (lv' := [(5, .int v33), (0, .ref x0), (1, .int x1), (2, .int x2), (3, .int x3), (4, .int x4)]) hx hb dX0_oneMore_44 hl (by decide) rfl (fun ls hl => ?_)
      refine lv_iload hx hb dX0_oneMore_46 (lv_at hl 0 rfl) ?_
      refine lv_if_ne (tgt := 54) hx hb dX0_oneMore_48 (by decide) (fun c35 => ?_) (fun c35 => ?_)
      · have hF := if_n c35 hF
        refine lv_iload hx hb dX0_oneMore_54 (lv_at hl 5 rfl) ?_
        refine lv_iconst (v := 4) hx hb dX0_oneMore_56 (by decide) ?_
        refine lv_idiv hx hb dX0_oneMore_57 (by decide) ?_
        refine lv_iload hx hb dX0_oneMore_58 (lv_at hl 5 rfl) ?_
        refine lv_iconst (v := 4) hx hb dX0_oneMore_60 (by decide) ?_
        refine lv_irem hx hb dX0_oneMore_61 (by decide) ?_
        obtain ⟨v37, e36, hF⟩ := ob_s hF
        refine m_callS (As := [.int (x4 / (4 : Int32)), .int (x4 - x4 / (4 : Int32) * (4 : Int32))]) (rest := []) X hp (w_X0_on e36) q1241 q1103 q132 q1104 2 rfl ds_X0_on ⟨Nat.le_of_ble_eq_true rfl, Nat.le_of_ble_eq_true rfl⟩ hl.1 rfl (Nat.le_of_ble_eq_true rfl) dX0_oneMore_62 ⟨Nat.le_refl 0, Nat.le_refl 0⟩ (fun H locs hp => ?_)
        refine lv_istore (lv' := [(6, .int v37), (5, .int v33), (0, .ref x0), (1, .int x1), (2, .int x2), (3, .int x3), (4, .int x4)]) hx hb dX0_oneMore_65 hl (by decide) rfl (fun ls hl => ?_)
        refine lv_iload hx hb dX0_oneMore_67 (lv_at hl 0 rfl) ?_
        refine lv_iconst (v := -1) hx hb dX0_oneMore_69 (by decide) ?_
        refine lv_icmp_eq (tgt := 125) hx hb dX0_oneMore_70 (by decide) (fun c38 => ?_) (fun c38 => ?_)
        · have hF := if_p c38 hF
          exact b_X0_oneMore_125 X _ ih _ _ _ _ _ _ _ _ _ _ hp (lv_sub hl [2, 3, 4, 5, 6, 1] rfl) hF
        · have hF := if_n c38 hF
          refine lv_aload_n hx hb dX0_oneMore_73 rfl (lv_at hl 2 rfl) ?_
          refine lv_iload hx hb dX0_oneMore_74 (lv_at hl 0 rfl) ?_
          obtain ⟨v40, e39, hF⟩ := ob_s hF
          refine m_callV (As := [.int v37]) (rest := []) X hp (w_X0_isOpen e39) q1228 q1230 qs41 q132 q1231 1 rfl ds_X0_isOpen ⟨Nat.le_of_ble_eq_true rfl, Nat.le_of_ble_eq_true rfl⟩ 1 (T := TX0) (N := 30) rfl (by decide) (rR_s e28).1 hl.1 rfl (Nat.le_of_ble_eq_true rfl) dX0_oneMore_76 ⟨Nat.le_refl 0, Nat.le_refl 0⟩ (fun H locs hp => ?_)
          refine lv_if_eq (tgt := 125) hx hb dX0_oneMore_79 (by decide) (fun c41 => ?_) (fun c41 => ?_)
          · have hF := if_p c41 hF
            exact b_X0_oneMore_125 X _ ih _ _ _ _ _ _ _ _ _ _ hp (lv_sub hl [2, 3, 4, 5, 6, 1] rfl) hF
          · have hF := if_n c41 hF
            refine lv_aload_n hx hb dX0_oneMore_82 rfl (lv_at hl 2 rfl) ?_
            obtain ⟨v42, e43, hF⟩ := ob_s hF
            refine m_getR X hp e43 kX0 (Nat.le_of_ble_eq_true rfl) q474 dX0_oneMore_83 ?_
            refine lv_iconst (v := 0) hx hb dX0_oneMore_86 (by decide) ?_
            obtain ⟨v44, e45, hF⟩ := ob_s hF
            refine m_aaR 109 X hp e45 rfl (by decide) rfl dX0_oneMore_87 ?_
            refine lv_iload_n hx hb dX0_oneMore_88 rfl (lv_at hl 5 rfl) ?_
            obtain ⟨v46, e47, hF⟩ := ob_s hF
            refine m_aaR 108 X hp e47 rfl (by decide) rfl dX0_oneMore_89 ?_
            refine lv_iconst (v := 4) hx hb dX0_oneMore_90 (by decide) ?_
            refine lv_iload hx hb dX0_oneMore_91 (lv_at hl 0 rfl) ?_
            refine lv_imul hx hb dX0_oneMore_93 ?_
            refine lv_iload hx hb dX0_oneMore_94 (lv_at hl 6 rfl) ?_
            refine lv_iconst (v := 4) hx hb dX0_oneMore_96 (by decide) ?_
            refine lv_irem hx hb dX0_oneMore_97 (by decide) ?_
            refine lv_iadd hx hb dX0_oneMore_98 ?_
            refine lv_aload_n hx hb dX0_oneMore_99 rfl (lv_at hl 2 rfl) ?_
            obtain ⟨v48, e49, hF⟩ := ob_s hF
            refine m_getR X hp e49 kX0 (Nat.le_of_ble_eq_true rfl) q474 dX0_oneMore_100 ?_
            refine lv_iconst (v := 0) hx hb dX0_oneMore_103 (by decide) ?_
            obtain ⟨v50, e51, hF⟩ := ob_s hF
            refine m_aaR 109 X hp e51 rfl (by decide) rfl dX0_oneMore_104 ?_
            refine lv_iload_n hx hb dX0_oneMore_105 rfl (lv_at hl 5 rfl) ?_
            obtain ⟨v52, e53, hF⟩ := ob_s hF
            refine m_aaR 108 X hp e53 rfl (by decide) rfl dX0_oneMore_106 ?_
            refine lv_iconst (v := 4) hx hb dX0_oneMore_107 (by decide) ?_
            refine lv_iload hx hb dX0_oneMore_108 (lv_at hl 0 rfl) ?_
            refine lv_imul hx hb dX0_oneMore_110 ?_
            refine lv_iload hx hb dX0_oneMore_111 (lv_at hl 6 rfl) ?_
            refine lv_iconst (v := 4) hx hb dX0_oneMore_113 (by decide) ?_
            refine lv_irem hx hb dX0_oneMore_114 (by decide) ?_
            refine lv_iadd hx hb dX0_oneMore_115 ?_
            obtain ⟨v54, e55, hF⟩ := ob_s hF
            refine m_iaI X hp e55 dX0_oneMore_116 ?_
            refine lv_iload hx hb dX0_oneMore_117 (lv_at hl 1 rfl) ?_
            refine lv_iadd hx hb dX0_oneMore_119 ?_
            refine lv_ldcw hx hb hown (hts _ q1258) dX0_oneMore_120 ?_
            refine lv_irem hx hb dX0_oneMore_123 (by decide) ?_
            obtain ⟨M56, e57, hF⟩ := ob_s hF
            refine m_iaW X hp e57 dX0_oneMore_124 (fun H locs hp => ?_)
            exact b_X0_oneMore_125 X _ ih _ _ _ _ _ _ _ _ _ _ hp (lv_sub hl [2, 3, 4, 5, 6, 1] rfl) hF
      · have hF := if_p c35 hF
        refine lv_goto (tgt := 255) hx hb dX0_oneMore_51 (by decide) ?_
        exact b_X0_oneMore_255 X _ ih _ _ _ _ _ _ _ _ _ hp (lv_sub hl [1, 2, 3, 4, 5] rfl) hF
def fb_X0_oneMore_17 (S : mSh) (k10 : mMm → Nat → Int32 → Int32 → Option mMm) : Nat → mMm → Nat → Int32 → Int32 → Int32 → Option mMm
  | 0, _, _, _, _, _ => none
  | t + 1, M, x0, x1, x2, x3 => (if x1 < x3 then nm (x2 + (1 : Int32)) fun v20 => (k10 M x0 x1 v20) else nm ((0 : Int32)) fun v22 => (fb_X0_oneMore_25 S (fb_X0_oneMore_17 S k10 t) FU M x0 x1 x2 x3 v22))
theorem b_X0_oneMore_17 {M' : mMm} (X : mCx D n0 P p m c cX0_oneMore 7 s args yX0_oneMore.cls meth none) (k10 : mMm → Nat → Int32 → Int32 → Option mMm) (hk10 : ∀ (M : mMm) (x0 : Nat) (x1 : Int32) (x2 : Int32) (H : Heap) (locs : List Loc) (ls : Array Slot), mHp D n0 S M n s H locs → lv_has ls 7 [(0, .ref x0), (1, .int x1), (2, .int x2)] → k10 M x0 x1 x2 = some M' → W p l e Rm_X0_oneMore s m args below meth c H locs 0 0 (MQ below (mQ D n0 none S M' n) args s 0 0 (mA n0)) (F0 m 10 ls [])) : ∀ t : Nat, ∀ (M : mMm) (x0 : Nat) (x1 : Int32) (x2 : Int32) (x3 : Int32) (H : Heap) (locs : List Loc) (ls : Array Slot), mHp D n0 S M n s H locs → lv_has ls 7 [(0, .ref x0), (1, .int x1), (2, .int x2), (3, .int x3)] → fb_X0_oneMore_17 S k10 t M x0 x1 x2 x3 = some M' → W p l e Rm_X0_oneMore s m args below meth c H locs 0 0 (MQ below (mQ D n0 none S M' n) args s 0 0 (mA n0)) (F0 m 17 ls []) := by
  have hx := X.1.1
  have hb := X.1.2.1
  have hown := X.1.2.2.2.1
  have hts := X.1.2.2.2.2
  intro t
  induction t with
  | zero =>
    intro M x0 x1 x2 x3 H locs ls hp hl hF
    have hF : none = some M' := hF
    cases hF
  | succ t ih =>
    intro M x0 x1 x2 x3 H locs ls hp hl hF
    rw [fb_X0_oneMore_17] at hF
    refine lv_iload_n hx hb dX0_oneMore_17 rfl (lv_at hl 3 rfl) ?_
    refine lv_iload_n hx hb dX0_oneMore_18 rfl (lv_at hl 1 rfl) ?_
    refine lv_icmp_gt (tgt := 267) hx hb dX0_oneMore_19 (by decide) (fun c19 => ?_) (fun c19 => ?_)
    · have hF := if_p c19 hF
      obtain ⟨v20, ev21⟩ : ∃ y : Int32, y = x2 + (1 : Int32) := ⟨_, rfl⟩
      have hF := nm_s hF ev21
      refine lv_iinc (v := v20) (lv' := [(2, .int v20), (0, .ref x0), (1, .int x1), (3, .int x3)]) hx hb dX0_oneMore_267 hl (k := 2) rfl (by rw [ev21]; rfl) (by decide) rfl (fun ls hl => ?_)
      refine lv_goto (tgt := 10) hx hb dX0_oneMore_270 (by decide) ?_
      exact hk10 _ _ _ _ _ _ _ hp (lv_sub hl [1, 2, 0] rfl) hF
    · have hF := if_n c19 hF
      refine lv_iconst (v := 0) hx hb dX0_oneMore_22 (by decide) ?_
      refine lv_topi (fun v22 ev23 => ?_)
      have hF := nm_s hF ev23
      refine lv_istore (lv' := [(4, .int v22), (0, .ref x0), (1, .int x1), (2, .int x2), (3, .int x3)]) hx hb dX0_oneMore_23 hl (by decide) rfl (fun ls hl => ?_)
      exact b_X0_oneMore_25 X _ ih _ _ _ _ _ _ _ _ _ _ hp (lv_sub hl [1, 2, 3, 4, 0] rfl) hF
def fb_X0_oneMore_10 (S : mSh) : Nat → mMm → Nat → Int32 → Int32 → Option mMm
  | 0, _, _, _, _ => none
  | t + 1, M, x0, x1, x2 => (if (3 : Int32) ≤ x2 then ob (rR S M x0 1 13) fun v9 => ob (rR S M x0 1 14) fun v11 => ob (wF S M x0 1 13 (.ref v11)) fun M13 => ob (wF S M13 x0 1 14 (.ref v9)) fun M15 => some M15 else nm ((0 : Int32)) fun v17 => (fb_X0_oneMore_17 S (fb_X0_oneMore_10 S t) FU M x0 x1 x2 v17))
theorem b_X0_oneMore_10 {M' : mMm} (X : mCx D n0 P p m c cX0_oneMore 7 s args yX0_oneMore.cls meth none) : ∀ t : Nat, ∀ (M : mMm) (x0 : Nat) (x1 : Int32) (x2 : Int32) (H : Heap) (locs : List Loc) (ls : Array Slot), mHp D n0 S M n s H locs → lv_has ls 7 [(0, .ref x0), (1, .int x1), (2, .int x2)] → fb_X0_oneMore_10 S t M x0 x1 x2 = some M' → W p l e Rm_X0_oneMore s m args below meth c H locs 0 0 (MQ below (mQ D n0 none S M' n) args s 0 0 (mA n0)) (F0 m 10 ls []) := by
  have hx := X.1.1
  have hb := X.1.2.1
  have hown := X.1.2.2.2.1
  have hts := X.1.2.2.2.2
  intro t
  induction t with
  | zero =>
    intro M x0 x1 x2 H locs ls hp hl hF
    have hF : none = some M' := hF
    cases hF
  | succ t ih =>
    intro M x0 x1 x2 H locs ls hp hl hF
    rw [fb_X0_oneMore_10] at hF
    refine lv_iload_n hx hb dX0_oneMore_10 rfl (lv_at hl 2 rfl) ?_
    refine lv_iconst (v := 3) hx hb dX0_oneMore_11 (by decide) ?_
    refine lv_icmp_ge (tgt := 273) hx hb dX0_oneMore_12 (by decide) (fun c8 => ?_) (fun c8 => ?_)
    · have hF := if_p c8 hF
      refine lv_aload_n hx hb dX0_oneMore_273 rfl (lv_at hl 0 rfl) ?_
      obtain ⟨v9, e10, hF⟩ := ob_s hF
      refine m_getR X hp e10 kX0 (Nat.le_of_ble_eq_true rfl) q473 dX0_oneMore_274 ?_
      refine lv_astore_n (lv' := [(2, .ref v9), (0, .ref x0), (1, .int x1)]) hx hb dX0_oneMore_277 rfl hl (by decide) rfl (fun ls hl => ?_)
      refine lv_aload_n hx hb dX0_oneMore_278 rfl (lv_at hl 1 rfl) ?_
      refine lv_aload_n hx hb dX0_oneMore_279 rfl (lv_at hl 1 rfl) ?_
      obtain ⟨v11, e12, hF⟩ := ob_s hF
      refine m_getR X hp e12 kX0 (Nat.le_of_ble_eq_true rfl) q474 dX0_oneMore_280 ?_
      obtain ⟨M13, e14, hF⟩ := ob_s hF
      refine m_putW X hp e14 kX0 (Nat.le_of_ble_eq_true rfl) q473 rfl rfl rfl dX0_oneMore_283 (fun H locs hp => ?_)
      refine lv_aload_n hx hb dX0_oneMore_286 rfl (lv_at hl 1 rfl) ?_
      refine lv_aload_n hx hb dX0_oneMore_287 rfl (lv_at hl 0 rfl) ?_
      obtain ⟨M15, e16, hF⟩ := ob_s hF
      refine m_putW X hp e16 kX0 (Nat.le_of_ble_eq_true rfl) q474 rfl rfl rfl dX0_oneMore_288 (fun H locs hp => ?_)
      cases hF
      exact m_vret X hp dX0_oneMore_291
    · have hF := if_n c8 hF
      refine lv_iconst (v := 0) hx hb dX0_oneMore_15 (by decide) ?_
      refine lv_topi (fun v17 ev18 => ?_)
      have hF := nm_s hF ev18
      refine lv_istore_n (lv' := [(3, .int v17), (0, .ref x0), (1, .int x1), (2, .int x2)]) hx hb dX0_oneMore_16 rfl hl (by decide) rfl (fun ls hl => ?_)
      exact b_X0_oneMore_17 X _ ih _ _ _ _ _ _ _ _ _ hp (lv_sub hl [1, 2, 3, 0] rfl) hF
def f_X0_oneMore (S : mSh) (M : mMm) (x0 : Nat) (x1 : Int32) : Option mMm := ob (rR S M x0 1 14) fun v1 => ob (f_X0_clears S M x0 v1) fun M5 => nm ((0 : Int32)) fun v6 => (fb_X0_oneMore_10 S FU M5 x0 x1 v6)
theorem w_X0_oneMore {x0 : Nat} {x1 : Int32} {M' : mMm} (hF : f_X0_oneMore S M x0 x1 = some M') : mCt l D n0 P yX0_oneMore cX0_oneMore 7 none 3 66 0 0 [.ref x0, .int x1] S M n none S M' n := by
  refine m_ofW (by decide) (Nat.le_of_ble_eq_true rfl) (fun p e s m below meth c X hnm hp ls hl => ?_)
  have hx := X.1.1
  have hb := X.1.2.1
  have hown := X.1.2.2.2.1
  have hts := X.1.2.2.2.2
  have hl : lv_has ls 7 [(0, .ref x0), (1, .int x1)] := hl
  unfold f_X0_oneMore at hF
  refine lv_aload_n hx hb dX0_oneMore_0 rfl (lv_at hl 0 rfl) ?_
  refine lv_aload_n hx hb dX0_oneMore_1 rfl (lv_at hl 0 rfl) ?_
  obtain ⟨v1, e2, hF⟩ := ob_s hF
  refine m_getR X hp e2 kX0 (Nat.le_of_ble_eq_true rfl) q474 dX0_oneMore_2 ?_
  obtain ⟨M5, e3, hF⟩ := ob_s hF
  refine m_callV (As := [.ref v1]) (rest := []) X hp (w_X0_clears e3) q1250 q1252 qs45 q132 q1253 1 rfl ds_X0_clears ⟨Nat.le_of_ble_eq_true rfl, Nat.le_of_ble_eq_true rfl⟩ 1 (T := TX0) (N := 30) rfl (by decide) (rR_s e2).1 hl.1 rfl (Nat.le_of_ble_eq_true rfl) dX0_oneMore_5 ⟨Nat.le_refl 0, Nat.le_refl 0⟩ (fun H locs hp => ?_)
  refine lv_iconst (v := 0) hx hb dX0_oneMore_8 (by decide) ?_
  refine lv_topi (fun v6 ev7 => ?_)
  have hF := nm_s hF ev7
  refine lv_istore_n (lv' := [(2, .int v6), (0, .ref x0), (1, .int x1)]) hx hb dX0_oneMore_9 rfl hl (by decide) rfl (fun ls hl => ?_)
  exact b_X0_oneMore_10 X _ _ _ _ _ _ _ _ hp (lv_sub hl [1, 2, 0] rfl) hF
end
section
variable {l : Launch} {D : va_G} {n0 : Nat} {P : mP} {S : mSh} {M : mMm} {n : Nat} {p : Program} {e : Env} {s : State} {m : MethodId} {args : Array Value} {below : List Frame} {meth : Method} {c : Code}
abbrev Rm_X0_over : Room := { frames := 515, cells := 0, slots := 0, locals := 11841 }
def fb_X0_over_23 (S : mSh) : Nat → mMm → Nat → Int32 → Int32 → Option (Int32 × mMm)
  | 0, _, _, _, _ => none
  | t + 1, M, x0, x1, x2 => (if (60 : Int32) < x2 then some ((-1 : Int32), M) else ob (rR S M x0 1 6) fun v16 => gd ((S v16).1 = 2) (ob (f_X1_passes S M v16) fun ⟨v20, M21⟩ => ob (rR S M21 x0 1 6) fun v22 => ob (rR S M21 v22 2 1) fun v24 => ob (aR S M21 v24 104 x1) fun v26 => gd ((S v26).1 = 5) (ob (f_X4_isIn S M21 v26) fun v30 => (if v30 = 0 then some (x2, M21) else nm (x2 + (1 : Int32)) fun v32 => (fb_X0_over_23 S t M21 x0 x1 v32)))))
theorem b_X0_over_23 {r : Int32} {M' : mMm} (X : mCx D n0 P p m c cX0_over 3 s args yX0_over.cls meth (some .int)) : ∀ t : Nat, ∀ (M : mMm) (x0 : Nat) (x1 : Int32) (x2 : Int32) (H : Heap) (locs : List Loc) (ls : Array Slot), mHp D n0 S M n s H locs → lv_has ls 3 [(0, .ref x0), (1, .int x1), (2, .int x2)] → fb_X0_over_23 S t M x0 x1 x2 = some (r, M') → W p l e Rm_X0_over s m args below meth c H locs 0 0 (MQ below (mQ D n0 (some (.int r)) S M' n) args s 0 0 (mA n0)) (F0 m 23 ls []) := by
  have hx := X.1.1
  have hb := X.1.2.1
  have hown := X.1.2.2.2.1
  have hts := X.1.2.2.2.2
  intro t
  induction t with
  | zero =>
    intro M x0 x1 x2 H locs ls hp hl hF
    have hF : none = some (r, M') := hF
    cases hF
  | succ t ih =>
    intro M x0 x1 x2 H locs ls hp hl hF
    rw [fb_X0_over_23] at hF
    refine lv_iload_n hx hb dX0_over_23 rfl (lv_at hl 2 rfl) ?_
    refine lv_bipush (v := 60) hx hb dX0_over_24 (by decide) ?_
    refine lv_icmp_gt (tgt := 60) hx hb dX0_over_26 (by decide) (fun c15 => ?_) (fun c15 => ?_)
    · have hF := if_p c15 hF
      refine lv_iconst (v := -1) hx hb dX0_over_60 (by decide) ?_
      cases hF
      exact m_iret X hp dX0_over_61
    · have hF := if_n c15 hF
      refine lv_aload_n hx hb dX0_over_29 rfl (lv_at hl 0 rfl) ?_
      obtain ⟨v16, e17, hF⟩ := ob_s hF
      refine m_getR X hp e17 kX0 (Nat.le_of_ble_eq_true rfl) q466 dX0_over_30 ?_
      obtain ⟨g18, hF⟩ := gd_s hF
      obtain ⟨⟨v20, M21⟩, e19, hF⟩ := ob_s hF
      refine m_callV (As := []) (rest := []) X hp (w_X1_passes e19) q1076 q1077 q1078 q133 q1079 0 rfl ds_X1_passes ⟨Nat.le_of_ble_eq_true rfl, Nat.le_of_ble_eq_true rfl⟩ 2 (T := TX1) (N := 19) rfl (by decide) g18 hl.1 rfl (Nat.le_of_ble_eq_true rfl) dX0_over_33 ⟨Nat.le_refl 0, Nat.le_refl 0⟩ (fun H locs hp => ?_)
      refine lv_pop hx hb dX0_over_36 rfl ?_
      refine lv_aload_n hx hb dX0_over_37 rfl (lv_at hl 0 rfl) ?_
      obtain ⟨v22, e23, hF⟩ := ob_s hF
      refine m_getR X hp e23 kX0 (Nat.le_of_ble_eq_true rfl) q466 dX0_over_38 ?_
      obtain ⟨v24, e25, hF⟩ := ob_s hF
      refine m_getRN X hp e25 kX1 (Nat.le_of_ble_eq_true rfl) q378 dX0_over_41 ?_
      refine lv_iload_n hx hb dX0_over_44 rfl (lv_at hl 1 rfl) ?_
      obtain ⟨v26, e27, hF⟩ := ob_s hF
      refine m_aaR 104 X hp e27 rfl (by decide) rfl dX0_over_45 ?_
      obtain ⟨g28, hF⟩ := gd_s hF
      obtain ⟨v30, e29, hF⟩ := ob_s hF
      refine m_callV (As := []) (rest := []) X hp (w_X4_isIn e29) q1023 q932 q933 q139 q934 0 rfl ds_X4_isIn ⟨Nat.le_of_ble_eq_true rfl, Nat.le_of_ble_eq_true rfl⟩ 5 (T := TX4) (N := 11) rfl (by decide) g28 hl.1 rfl (Nat.le_of_ble_eq_true rfl) dX0_over_46 ⟨Nat.le_refl 0, Nat.le_refl 0⟩ (fun H locs hp => ?_)
      refine lv_if_ne (tgt := 54) hx hb dX0_over_49 (by decide) (fun c31 => ?_) (fun c31 => ?_)
      · have hF := if_n c31 hF
        obtain ⟨v32, ev33⟩ : ∃ y : Int32, y = x2 + (1 : Int32) := ⟨_, rfl⟩
        have hF := nm_s hF ev33
        refine lv_iinc (v := v32) (lv' := [(2, .int v32), (0, .ref x0), (1, .int x1)]) hx hb dX0_over_54 hl (k := 2) rfl (by rw [ev33]; rfl) (by decide) rfl (fun ls hl => ?_)
        refine lv_goto (tgt := 23) hx hb dX0_over_57 (by decide) ?_
        exact ih _ _ _ _ _ _ _ hp (lv_sub hl [1, 2, 0] rfl) hF
      · have hF := if_p c31 hF
        refine lv_iload_n hx hb dX0_over_52 rfl (lv_at hl 2 rfl) ?_
        cases hF
        exact m_iret X hp dX0_over_53
def f_X0_over (S : mSh) (M : mMm) (x0 : Nat) (x1 : Int32) : Option (Int32 × mMm) := gd ((S x0).1 = 1) (ob (f_X0_isInside S M x0 x1) fun v3 => (if v3 = 0 then some ((-1 : Int32), M) else ob (rR S M x0 1 6) fun v5 => ob (rR S M x0 1 4) fun v7 => gd ((S v5).1 = 2) (ob (f_X1_thinks S M v5 v7) fun M12 => nm ((1 : Int32)) fun v13 => (fb_X0_over_23 S FU M12 x0 x1 v13))))
theorem w_X0_over {x0 : Nat} {x1 : Int32} {r : Int32} {M' : mMm} (hF : f_X0_over S M x0 x1 = some (r, M')) : mCt l D n0 P yX0_over cX0_over 3 (some .int) 515 11841 0 0 [.ref x0, .int x1] S M n (some (.int r)) S M' n := by
  refine m_ofW (by decide) (Nat.le_of_ble_eq_true rfl) (fun p e s m below meth c X hnm hp ls hl => ?_)
  have hx := X.1.1
  have hb := X.1.2.1
  have hown := X.1.2.2.2.1
  have hts := X.1.2.2.2.2
  have hl : lv_has ls 3 [(0, .ref x0), (1, .int x1)] := hl
  unfold f_X0_over at hF
  refine lv_aload_n hx hb dX0_over_0 rfl (lv_at hl 0 rfl) ?_
  refine lv_iload_n hx hb dX0_over_1 rfl (lv_at hl 1 rfl) ?_
  obtain ⟨g1, hF⟩ := gd_s hF
  obtain ⟨v3, e2, hF⟩ := ob_s hF
  refine m_callV (As := [.int x1]) (rest := []) X hp (w_X0_isInside e2) q1052 q1054 qs33 q132 q1055 1 rfl ds_X0_isInside ⟨Nat.le_of_ble_eq_true rfl, Nat.le_of_ble_eq_true rfl⟩ 1 (T := TX0) (N := 30) rfl (by decide) g1 hl.1 rfl (Nat.le_of_ble_eq_true rfl) dX0_over_2 ⟨Nat.le_refl 0, Nat.le_refl 0⟩ (fun H locs hp => ?_)
  refine lv_if_ne (tgt := 10) hx hb dX0_over_5 (by decide) (fun c4 => ?_) (fun c4 => ?_)
  · have hF := if_n c4 hF
    refine lv_aload_n hx hb dX0_over_10 rfl (lv_at hl 0 rfl) ?_
    obtain ⟨v5, e6, hF⟩ := ob_s hF
    refine m_getR X hp e6 kX0 (Nat.le_of_ble_eq_true rfl) q466 dX0_over_11 ?_
    refine lv_aload_n hx hb dX0_over_14 rfl (lv_at hl 0 rfl) ?_
    obtain ⟨v7, e8, hF⟩ := ob_s hF
    refine m_getR X hp e8 kX0 (Nat.le_of_ble_eq_true rfl) q463 dX0_over_15 ?_
    obtain ⟨g9, hF⟩ := gd_s hF
    obtain ⟨M12, e10, hF⟩ := ob_s hF
    refine m_callV (As := [.ref v7]) (rest := []) X hp (w_X1_thinks e10) q1209 q1210 q1211 q133 q1212 1 rfl ds_X1_thinks ⟨Nat.le_of_ble_eq_true rfl, Nat.le_of_ble_eq_true rfl⟩ 2 (T := TX1) (N := 19) rfl (by decide) g9 hl.1 rfl (Nat.le_of_ble_eq_true rfl) dX0_over_18 ⟨Nat.le_refl 0, Nat.le_refl 0⟩ (fun H locs hp => ?_)
    refine lv_iconst (v := 1) hx hb dX0_over_21 (by decide) ?_
    refine lv_topi (fun v13 ev14 => ?_)
    have hF := nm_s hF ev14
    refine lv_istore_n (lv' := [(2, .int v13), (0, .ref x0), (1, .int x1)]) hx hb dX0_over_22 rfl hl (by decide) rfl (fun ls hl => ?_)
    exact b_X0_over_23 X _ _ _ _ _ _ _ _ hp (lv_sub hl [1, 2, 0] rfl) hF
  · have hF := if_p c4 hF
    refine lv_iconst (v := -1) hx hb dX0_over_8 (by decide) ?_
    cases hF
    exact m_iret X hp dX0_over_9
end
section
variable {l : Launch} {D : va_G} {n0 : Nat} {P : mP} {S : mSh} {M : mMm} {n : Nat} {p : Program} {e : Env} {s : State} {m : MethodId} {args : Array Value} {below : List Frame} {meth : Method} {c : Code}
abbrev Rm_X6_see : Room := { frames := 0, cells := 0, slots := 0, locals := 0 }
def f_X6_see (S : mSh) (M : mMm) (x0 : Nat) : Option Int32 := ob (rI S M x0 7 3) fun v1 => ob (rR S M x0 7 9) fun v3 => ob (rI S M v3 1 1) fun v5 => (if v5 ≤ v1 then some (-1 : Int32) else ob (rR S M x0 7 9) fun v8 => ob (rR S M v8 1 0) fun v10 => ob (rI S M x0 7 3) fun v12 => ob (aI S M v10 101 v12) fun v14 => some (v14 &&& (255 : Int32)))
theorem w_X6_see {x0 : Nat} {r : Int32} (hF : f_X6_see S M x0 = some r) : mCt l D n0 P yX6_see cX6_see 1 (some .int) 0 0 0 0 [.ref x0] S M n (some (.int r)) S M n := by
  refine m_ofW (by decide) (Nat.le_of_ble_eq_true rfl) (fun p e s m below meth c X hnm hp ls hl => ?_)
  have hx := X.1.1
  have hb := X.1.2.1
  have hown := X.1.2.2.2.1
  have hts := X.1.2.2.2.2
  have hl : lv_has ls 1 [(0, .ref x0)] := hl
  unfold f_X6_see at hF
  refine lv_aload_n hx hb dX6_see_0 rfl (lv_at hl 0 rfl) ?_
  obtain ⟨v1, e2, hF⟩ := ob_s hF
  refine m_getI X hp e2 kX6 (Nat.le_of_ble_eq_true rfl) q588 dX6_see_1 ?_
  refine lv_aload_n hx hb dX6_see_4 rfl (lv_at hl 0 rfl) ?_
  obtain ⟨v3, e4, hF⟩ := ob_s hF
  refine m_getR X hp e4 kX6 (Nat.le_of_ble_eq_true rfl) q595 dX6_see_5 ?_
  obtain ⟨v5, e6, hF⟩ := ob_s hF
  refine m_getIN X hp e6 kX0 (Nat.le_of_ble_eq_true rfl) q459 dX6_see_8 ?_
  refine lv_icmp_ge (tgt := 33) hx hb dX6_see_11 (by decide) (fun c7 => ?_) (fun c7 => ?_)
  · have hF := if_p c7 hF
    refine lv_iconst (v := -1) hx hb dX6_see_33 (by decide) ?_
    cases hF
    exact m_iret X hp dX6_see_34
  · have hF := if_n c7 hF
    refine lv_aload_n hx hb dX6_see_14 rfl (lv_at hl 0 rfl) ?_
    obtain ⟨v8, e9, hF⟩ := ob_s hF
    refine m_getR X hp e9 kX6 (Nat.le_of_ble_eq_true rfl) q595 dX6_see_15 ?_
    obtain ⟨v10, e11, hF⟩ := ob_s hF
    refine m_getRN X hp e11 kX0 (Nat.le_of_ble_eq_true rfl) q458 dX6_see_18 ?_
    refine lv_aload_n hx hb dX6_see_21 rfl (lv_at hl 0 rfl) ?_
    obtain ⟨v12, e13, hF⟩ := ob_s hF
    refine m_getI X hp e13 kX6 (Nat.le_of_ble_eq_true rfl) q588 dX6_see_22 ?_
    obtain ⟨v14, e15, hF⟩ := ob_s hF
    refine m_baI X hp e15 dX6_see_25 ?_
    refine lv_sipush (v := 255) hx hb dX6_see_26 (by decide) ?_
    refine lv_iand hx hb dX6_see_29 ?_
    refine lv_goto (tgt := 34) hx hb dX6_see_30 (by decide) ?_
    cases hF
    exact m_iret X hp dX6_see_34
end
section
variable {l : Launch} {D : va_G} {n0 : Nat} {P : mP} {S : mSh} {M : mMm} {n : Nat} {p : Program} {e : Env} {s : State} {m : MethodId} {args : Array Value} {below : List Frame} {meth : Method} {c : Code}
abbrev Rm_X6_isLetter : Room := { frames := 1, cells := 0, slots := 0, locals := 22 }
def f_X6_isLetter (S : mSh) (M : mMm) (x0 : Nat) : Option Int32 := gd ((S x0).1 = 7) (ob (f_X6_see S M x0) fun v3 => ob (f_X0_isIn v3 (97 : Int32) (122 : Int32)) fun v5 => (if v5 = 0 then ob (f_X6_see S M x0) fun v8 => ob (f_X0_isIn v8 (65 : Int32) (90 : Int32)) fun v10 => (if v10 = 0 then some (0 : Int32) else some (1 : Int32)) else some (1 : Int32)))
theorem w_X6_isLetter {x0 : Nat} {r : Int32} (hF : f_X6_isLetter S M x0 = some r) : mCt l D n0 P yX6_isLetter cX6_isLetter 1 (some .boolean) 1 22 0 0 [.ref x0] S M n (some (.int r)) S M n := by
  refine m_ofW (by decide) (Nat.le_of_ble_eq_true rfl) (fun p e s m below meth c X hnm hp ls hl => ?_)
  have hx := X.1.1
  have hb := X.1.2.1
  have hown := X.1.2.2.2.1
  have hts := X.1.2.2.2.2
  have hl : lv_has ls 1 [(0, .ref x0)] := hl
  unfold f_X6_isLetter at hF
  refine lv_aload_n hx hb dX6_isLetter_0 rfl (lv_at hl 0 rfl) ?_
  obtain ⟨g1, hF⟩ := gd_s hF
  obtain ⟨v3, e2, hF⟩ := ob_s hF
  refine m_callV (As := []) (rest := []) X hp (w_X6_see e2) q625 q627 qs6 q148 q628 0 rfl ds_X6_see ⟨Nat.le_of_ble_eq_true rfl, Nat.le_of_ble_eq_true rfl⟩ 7 (T := TX6) (N := 10) rfl (by decide) g1 hl.1 rfl (Nat.le_of_ble_eq_true rfl) dX6_isLetter_1 ⟨Nat.le_refl 0, Nat.le_refl 0⟩ (fun H locs hp => ?_)
  refine lv_bipush (v := 97) hx hb dX6_isLetter_4 (by decide) ?_
  refine lv_bipush (v := 122) hx hb dX6_isLetter_6 (by decide) ?_
  obtain ⟨v5, e4, hF⟩ := ob_s hF
  refine m_callSN (As := [.int v3, .int (97 : Int32), .int (122 : Int32)]) (rest := []) X hp (w_X0_isIn e4) q633 q566 q132 q567 3 rfl ds_X0_isIn ⟨Nat.le_of_ble_eq_true rfl, Nat.le_of_ble_eq_true rfl⟩ hl.1 rfl (Nat.le_of_ble_eq_true rfl) dX6_isLetter_8 ⟨Nat.le_refl 0, Nat.le_refl 0⟩ (fun H locs hp => ?_)
  refine lv_if_ne (tgt := 28) hx hb dX6_isLetter_11 (by decide) (fun c6 => ?_) (fun c6 => ?_)
  · have hF := if_n c6 hF
    refine lv_iconst (v := 1) hx hb dX6_isLetter_28 (by decide) ?_
    refine lv_goto (tgt := 33) hx hb dX6_isLetter_29 (by decide) ?_
    cases hF
    exact m_zret X hp rfl dX6_isLetter_33
  · have hF := if_p c6 hF
    refine lv_aload_n hx hb dX6_isLetter_14 rfl (lv_at hl 0 rfl) ?_
    obtain ⟨v8, e7, hF⟩ := ob_s hF
    refine m_callV (As := []) (rest := []) X hp (w_X6_see e7) q625 q627 qs6 q148 q628 0 rfl ds_X6_see ⟨Nat.le_of_ble_eq_true rfl, Nat.le_of_ble_eq_true rfl⟩ 7 (T := TX6) (N := 10) rfl (by decide) g1 hl.1 rfl (Nat.le_of_ble_eq_true rfl) dX6_isLetter_15 ⟨Nat.le_refl 0, Nat.le_refl 0⟩ (fun H locs hp => ?_)
    refine lv_bipush (v := 65) hx hb dX6_isLetter_18 (by decide) ?_
    refine lv_bipush (v := 90) hx hb dX6_isLetter_20 (by decide) ?_
    obtain ⟨v10, e9, hF⟩ := ob_s hF
    refine m_callSN (As := [.int v8, .int (65 : Int32), .int (90 : Int32)]) (rest := []) X hp (w_X0_isIn e9) q633 q566 q132 q567 3 rfl ds_X0_isIn ⟨Nat.le_of_ble_eq_true rfl, Nat.le_of_ble_eq_true rfl⟩ hl.1 rfl (Nat.le_of_ble_eq_true rfl) dX6_isLetter_22 ⟨Nat.le_refl 0, Nat.le_refl 0⟩ (fun H locs hp => ?_)
    refine lv_if_eq (tgt := 32) hx hb dX6_isLetter_25 (by decide) (fun c11 => ?_) (fun c11 => ?_)
    · have hF := if_p c11 hF
      refine lv_iconst (v := 0) hx hb dX6_isLetter_32 (by decide) ?_
      cases hF
      exact m_zret X hp rfl dX6_isLetter_33
    · have hF := if_n c11 hF
      refine lv_iconst (v := 1) hx hb dX6_isLetter_28 (by decide) ?_
      refine lv_goto (tgt := 33) hx hb dX6_isLetter_29 (by decide) ?_
      cases hF
      exact m_zret X hp rfl dX6_isLetter_33
end
section
variable {l : Launch} {D : va_G} {n0 : Nat} {P : mP} {V : Nat → Nat} {S : mSh} {M : mMm} {n : Nat} {p : Program} {e : Env} {s : State} {m : MethodId} {args : Array Value} {below : List Frame} {meth : Method} {c : Code}
abbrev Rm_X6_is : Room := { frames := 4, cells := 0, slots := 0, locals := 141 }
def fb_X6_is_63 (V : Nat → Nat) (S : mSh) (M : mMm) (k24 : Nat → Nat → Int32 → Int32 → Option Int32) (x0 : Nat) (x1 : Nat) (x3 : Int32) (y0 : Int32) : Option Int32 := nm (x3 + (1 : Int32)) fun v27 => (k24 x0 x1 y0 v27)
theorem b_X6_is_63 {r : Int32} (hVs : mVs V n0 P) (X : mCx D n0 P p m c cX6_is 4 s args yX6_is.cls meth (some .boolean)) (k24 : Nat → Nat → Int32 → Int32 → Option Int32) (hk24 : ∀ (x0 : Nat) (x1 : Nat) (x2 : Int32) (x3 : Int32) (H : Heap) (locs : List Loc) (ls : Array Slot), mHp D n0 S M n s H locs → lv_has ls 4 [(0, .ref x0), (1, .ref (V (2 + x1))), (2, .int x2), (3, .int x3)] → k24 x0 x1 x2 x3 = some r → W p l e Rm_X6_is s m args below meth c H locs 0 0 (MQ below (mQ D n0 (some (.int r)) S M n) args s 0 0 (mA n0)) (F0 m 24 ls [])) : ∀ (x0 : Nat) (x1 : Nat) (x3 : Int32) (y0 : Int32) (H : Heap) (locs : List Loc) (ls : Array Slot), mHp D n0 S M n s H locs → lv_has ls 4 [(0, .ref x0), (1, .ref (V (2 + x1))), (3, .int x3)] → fb_X6_is_63 V S M k24 x0 x1 x3 y0 = some r → W p l e Rm_X6_is s m args below meth c H locs 0 0 (MQ below (mQ D n0 (some (.int r)) S M n) args s 0 0 (mA n0)) (F0 m 63 ls [.int y0]) := by
  have hx := X.1.1
  have hb := X.1.2.1
  have hown := X.1.2.2.2.1
  have hts := X.1.2.2.2.2
  intro x0 x1 x3 y0 H locs ls hp hl hF
  unfold fb_X6_is_63 at hF
  refine lv_istore_n (lv' := [(2, .int y0), (0, .ref x0), (1, .ref (V (2 + x1))), (3, .int x3)]) hx hb dX6_is_63 rfl hl (by decide) rfl (fun ls hl => ?_)
  obtain ⟨v27, ev28⟩ : ∃ y : Int32, y = x3 + (1 : Int32) := ⟨_, rfl⟩
  have hF := nm_s hF ev28
  refine lv_iinc (v := v27) (lv' := [(3, .int v27), (2, .int y0), (0, .ref x0), (1, .ref (V (2 + x1)))]) hx hb dX6_is_64 hl (k := 3) rfl (by rw [ev28]; rfl) (by decide) rfl (fun ls hl => ?_)
  refine lv_goto (tgt := 24) hx hb dX6_is_67 (by decide) ?_
  exact hk24 _ _ _ _ _ _ _ hp (lv_sub hl [2, 3, 1, 0] rfl) hF
def fb_X6_is_24 (V : Nat → Nat) (S : mSh) (M : mMm) : Nat → Nat → Nat → Int32 → Int32 → Option Int32
  | 0, _, _, _, _ => none
  | t + 1, x0, x1, x2, x3 => ob (sLen x1) fun v10 => (if v10 ≤ x3 then gd (x2 &&& 1 = x2) (some x2) else (if x2 = 0 then gd (x2 &&& 1 = x2) (some x2) else ob (rR S M x0 7 9) fun v16 => ob (rR S M v16 1 0) fun v18 => ob (rI S M x0 7 4) fun v20 => ob (aI S M v18 101 (v20 + x3)) fun v22 => ob (sAt x1 x3) fun v24 => (if v22 = v24 then (fb_X6_is_63 V S M (fb_X6_is_24 V S M t) x0 x1 x3 (1 : Int32)) else (fb_X6_is_63 V S M (fb_X6_is_24 V S M t) x0 x1 x3 (0 : Int32)))))
theorem b_X6_is_24 {r : Int32} (hVs : mVs V n0 P) (X : mCx D n0 P p m c cX6_is 4 s args yX6_is.cls meth (some .boolean)) : ∀ t : Nat, ∀ (x0 : Nat) (x1 : Nat) (x2 : Int32) (x3 : Int32) (H : Heap) (locs : List Loc) (ls : Array Slot), mHp D n0 S M n s H locs → lv_has ls 4 [(0, .ref x0), (1, .ref (V (2 + x1))), (2, .int x2), (3, .int x3)] → fb_X6_is_24 V S M t x0 x1 x2 x3 = some r → W p l e Rm_X6_is s m args below meth c H locs 0 0 (MQ below (mQ D n0 (some (.int r)) S M n) args s 0 0 (mA n0)) (F0 m 24 ls []) := by
  have hx := X.1.1
  have hb := X.1.2.1
  have hown := X.1.2.2.2.1
  have hts := X.1.2.2.2.2
  intro t
  induction t with
  | zero =>
    intro x0 x1 x2 x3 H locs ls hp hl hF
    have hF : none = some r := hF
    cases hF
  | succ t ih =>
    intro x0 x1 x2 x3 H locs ls hp hl hF
    rw [fb_X6_is_24] at hF
    refine lv_iload_n hx hb dX6_is_24 rfl (lv_at hl 3 rfl) ?_
    refine lv_aload_n hx hb dX6_is_25 rfl (lv_at hl 1 rfl) ?_
    obtain ⟨v10, e11, hF⟩ := ob_s hF
    refine m_sLen (rest := [.int x3]) X hp hVs e11 q647 ⟨Nat.le_of_ble_eq_true rfl, Nat.le_of_ble_eq_true rfl⟩ hl.1 (Nat.le_of_ble_eq_true rfl) dX6_is_26 ⟨Nat.le_refl 0, Nat.le_refl 0⟩ (fun H locs hp => ?_)
    refine lv_icmp_ge (tgt := 70) hx hb dX6_is_29 (by decide) (fun c12 => ?_) (fun c12 => ?_)
    · have hF := if_p c12 hF
      refine lv_iload_n hx hb dX6_is_70 rfl (lv_at hl 2 rfl) ?_
      obtain ⟨g13, hF⟩ := gd_s hF
      cases hF
      exact m_zret X hp ((bz_iff _).mpr g13) dX6_is_71
    · have hF := if_n c12 hF
      refine lv_iload_n hx hb dX6_is_32 rfl (lv_at hl 2 rfl) ?_
      refine lv_if_eq (tgt := 70) hx hb dX6_is_33 (by decide) (fun c14 => ?_) (fun c14 => ?_)
      · have hF := if_p c14 hF
        refine lv_iload_n hx hb dX6_is_70 rfl (lv_at hl 2 rfl) ?_
        obtain ⟨g15, hF⟩ := gd_s hF
        cases hF
        exact m_zret X hp ((bz_iff _).mpr g15) dX6_is_71
      · have hF := if_n c14 hF
        refine lv_aload_n hx hb dX6_is_36 rfl (lv_at hl 0 rfl) ?_
        obtain ⟨v16, e17, hF⟩ := ob_s hF
        refine m_getR X hp e17 kX6 (Nat.le_of_ble_eq_true rfl) q595 dX6_is_37 ?_
        obtain ⟨v18, e19, hF⟩ := ob_s hF
        refine m_getRN X hp e19 kX0 (Nat.le_of_ble_eq_true rfl) q458 dX6_is_40 ?_
        refine lv_aload_n hx hb dX6_is_43 rfl (lv_at hl 0 rfl) ?_
        obtain ⟨v20, e21, hF⟩ := ob_s hF
        refine m_getI X hp e21 kX6 (Nat.le_of_ble_eq_true rfl) q589 dX6_is_44 ?_
        refine lv_iload_n hx hb dX6_is_47 rfl (lv_at hl 3 rfl) ?_
        refine lv_iadd hx hb dX6_is_48 ?_
        obtain ⟨v22, e23, hF⟩ := ob_s hF
        refine m_baI X hp e23 dX6_is_49 ?_
        refine lv_aload_n hx hb dX6_is_50 rfl (lv_at hl 1 rfl) ?_
        refine lv_iload_n hx hb dX6_is_51 rfl (lv_at hl 3 rfl) ?_
        obtain ⟨v24, e25, hF⟩ := ob_s hF
        refine m_sAt (rest := [.int v22]) X hp hVs e25 q657 ⟨Nat.le_of_ble_eq_true rfl, Nat.le_of_ble_eq_true rfl⟩ hl.1 (Nat.le_of_ble_eq_true rfl) dX6_is_52 ⟨Nat.le_refl 0, Nat.le_refl 0⟩ (fun H locs hp => ?_)
        refine lv_icmp_ne (tgt := 62) hx hb dX6_is_55 (by decide) (fun c26 => ?_) (fun c26 => ?_)
        · have hF := if_n c26 hF
          refine lv_iconst (v := 0) hx hb dX6_is_62 (by decide) ?_
          exact b_X6_is_63 hVs X _ ih _ _ _ _ _ _ _ hp (lv_sub hl [0, 1, 3] rfl) hF
        · have hF := if_p c26 hF
          refine lv_iconst (v := 1) hx hb dX6_is_58 (by decide) ?_
          refine lv_goto (tgt := 63) hx hb dX6_is_59 (by decide) ?_
          exact b_X6_is_63 hVs X _ ih _ _ _ _ _ _ _ hp (lv_sub hl [0, 1, 3] rfl) hF
def fb_X6_is_21 (V : Nat → Nat) (S : mSh) (M : mMm) (x0 : Nat) (x1 : Nat) (y0 : Int32) : Option Int32 := nm ((0 : Int32)) fun v8 => (fb_X6_is_24 V S M FU x0 x1 y0 v8)
theorem b_X6_is_21 {r : Int32} (hVs : mVs V n0 P) (X : mCx D n0 P p m c cX6_is 4 s args yX6_is.cls meth (some .boolean)) : ∀ (x0 : Nat) (x1 : Nat) (y0 : Int32) (H : Heap) (locs : List Loc) (ls : Array Slot), mHp D n0 S M n s H locs → lv_has ls 4 [(0, .ref x0), (1, .ref (V (2 + x1)))] → fb_X6_is_21 V S M x0 x1 y0 = some r → W p l e Rm_X6_is s m args below meth c H locs 0 0 (MQ below (mQ D n0 (some (.int r)) S M n) args s 0 0 (mA n0)) (F0 m 21 ls [.int y0]) := by
  have hx := X.1.1
  have hb := X.1.2.1
  have hown := X.1.2.2.2.1
  have hts := X.1.2.2.2.2
  intro x0 x1 y0 H locs ls hp hl hF
  unfold fb_X6_is_21 at hF
  refine lv_istore_n (lv' := [(2, .int y0), (0, .ref x0), (1, .ref (V (2 + x1)))]) hx hb dX6_is_21 rfl hl (by decide) rfl (fun ls hl => ?_)
  refine lv_iconst (v := 0) hx hb dX6_is_22 (by decide) ?_
  refine lv_topi (fun v8 ev9 => ?_)
  have hF := nm_s hF ev9
  refine lv_istore_n (lv' := [(3, .int v8), (2, .int y0), (0, .ref x0), (1, .ref (V (2 + x1)))]) hx hb dX6_is_23 rfl hl (by decide) rfl (fun ls hl => ?_)
  exact b_X6_is_24 hVs X _ _ _ _ _ _ _ _ hp (lv_sub hl [2, 3, 1, 0] rfl) hF
def f_X6_is (V : Nat → Nat) (S : mSh) (M : mMm) (x0 : Nat) (x1 : Nat) : Option Int32 := ob (rI S M x0 7 3) fun v1 => ob (rI S M x0 7 4) fun v3 => ob (sLen x1) fun v5 => (if (v1 - v3) = v5 then (fb_X6_is_21 V S M x0 x1 (1 : Int32)) else (fb_X6_is_21 V S M x0 x1 (0 : Int32)))
theorem w_X6_is {x0 : Nat} {x1 : Nat} {r : Int32} (hVs : mVs V n0 P) (hF : f_X6_is V S M x0 x1 = some r) : mCt l D n0 P yX6_is cX6_is 4 (some .boolean) 4 141 0 0 [.ref x0, .ref (V (2 + x1))] S M n (some (.int r)) S M n := by
  refine m_ofW (by decide) (Nat.le_of_ble_eq_true rfl) (fun p e s m below meth c X hnm hp ls hl => ?_)
  have hx := X.1.1
  have hb := X.1.2.1
  have hown := X.1.2.2.2.1
  have hts := X.1.2.2.2.2
  have hl : lv_has ls 4 [(0, .ref x0), (1, .ref (V (2 + x1)))] := hl
  unfold f_X6_is at hF
  refine lv_aload_n hx hb dX6_is_0 rfl (lv_at hl 0 rfl) ?_
  obtain ⟨v1, e2, hF⟩ := ob_s hF
  refine m_getI X hp e2 kX6 (Nat.le_of_ble_eq_true rfl) q588 dX6_is_1 ?_
  refine lv_aload_n hx hb dX6_is_4 rfl (lv_at hl 0 rfl) ?_
  obtain ⟨v3, e4, hF⟩ := ob_s hF
  refine m_getI X hp e4 kX6 (Nat.le_of_ble_eq_true rfl) q589 dX6_is_5 ?_
  refine lv_isub hx hb dX6_is_8 ?_
  refine lv_aload_n hx hb dX6_is_9 rfl (lv_at hl 1 rfl) ?_
  obtain ⟨v5, e6, hF⟩ := ob_s hF
  refine m_sLen (rest := [.int (v1 - v3)]) X hp hVs e6 q647 ⟨Nat.le_of_ble_eq_true rfl, Nat.le_of_ble_eq_true rfl⟩ hl.1 (Nat.le_of_ble_eq_true rfl) dX6_is_10 ⟨Nat.le_refl 0, Nat.le_refl 0⟩ (fun H locs hp => ?_)
  refine lv_icmp_ne (tgt := 20) hx hb dX6_is_13 (by decide) (fun c7 => ?_) (fun c7 => ?_)
  · have hF := if_n c7 hF
    refine lv_iconst (v := 0) hx hb dX6_is_20 (by decide) ?_
    exact b_X6_is_21 hVs X _ _ _ _ _ _ hp (lv_sub hl [0, 1] rfl) hF
  · have hF := if_p c7 hF
    refine lv_iconst (v := 1) hx hb dX6_is_16 (by decide) ?_
    refine lv_goto (tgt := 21) hx hb dX6_is_17 (by decide) ?_
    exact b_X6_is_21 hVs X _ _ _ _ _ _ hp (lv_sub hl [0, 1] rfl) hF
end
section
variable {l : Launch} {D : va_G} {n0 : Nat} {P : mP} {V : Nat → Nat} {S : mSh} {M : mMm} {n : Nat} {p : Program} {e : Env} {s : State} {m : MethodId} {args : Array Value} {below : List Frame} {meth : Method} {c : Code}
abbrev Rm_X6_asked : Room := { frames := 5, cells := 0, slots := 0, locals := 164 }
def f_X6_asked (V : Nat → Nat) (S : mSh) (M : mMm) (x0 : Nat) : Option Int32 := gd ((S x0).1 = 7) (ob (f_X6_is V S M x0 0) fun v3 => (if v3 = 0 then ob (f_X6_is V S M x0 1) fun v6 => (if v6 = 0 then ob (f_X6_is V S M x0 2) fun v9 => (if v9 = 0 then ob (f_X6_is V S M x0 3) fun v12 => (if v12 = 0 then ob (f_X6_is V S M x0 4) fun v15 => (if v15 = 0 then ob (f_X6_is V S M x0 5) fun v18 => (if v18 = 0 then ob (f_X6_is V S M x0 6) fun v21 => (if v21 = 0 then ob (f_X6_is V S M x0 7) fun v24 => (if v24 = 0 then ob (f_X6_is V S M x0 8) fun v27 => (if v27 = 0 then ob (f_X6_is V S M x0 9) fun v30 => (if v30 = 0 then some (1 : Int32) else some (189 : Int32)) else some (188 : Int32)) else some (187 : Int32)) else some (186 : Int32)) else some (185 : Int32)) else some (184 : Int32)) else some (183 : Int32)) else some (182 : Int32)) else some (181 : Int32)) else some (180 : Int32)))
theorem w_X6_asked {x0 : Nat} {r : Int32} (hVs : mVs V n0 P) (hF : f_X6_asked V S M x0 = some r) : mCt l D n0 P yX6_asked cX6_asked 1 (some .int) 5 164 0 0 [.ref x0] S M n (some (.int r)) S M n := by
  refine m_ofW (by decide) (Nat.le_of_ble_eq_true rfl) (fun p e s m below meth c X hnm hp ls hl => ?_)
  have hx := X.1.1
  have hb := X.1.2.1
  have hown := X.1.2.2.2.1
  have hts := X.1.2.2.2.2
  have hl : lv_has ls 1 [(0, .ref x0)] := hl
  unfold f_X6_asked at hF
  refine lv_aload_n hx hb dX6_asked_0 rfl (lv_at hl 0 rfl) ?_
  refine m_ldcS 0 X hVs (by decide) rfl dX6_asked_1 ?_
  obtain ⟨g1, hF⟩ := gd_s hF
  obtain ⟨v3, e2, hF⟩ := ob_s hF
  refine m_callV (As := [.ref (V (2 + 0))]) (rest := []) X hp (w_X6_is hVs e2) q643 q645 qs10 q148 q646 1 rfl ds_X6_is ⟨Nat.le_of_ble_eq_true rfl, Nat.le_of_ble_eq_true rfl⟩ 7 (T := TX6) (N := 10) rfl (by decide) g1 hl.1 rfl (Nat.le_of_ble_eq_true rfl) dX6_asked_3 ⟨Nat.le_refl 0, Nat.le_refl 0⟩ (fun H locs hp => ?_)
  refine lv_if_eq (tgt := 13) hx hb dX6_asked_6 (by decide) (fun c4 => ?_) (fun c4 => ?_)
  · have hF := if_p c4 hF
    refine lv_aload_n hx hb dX6_asked_13 rfl (lv_at hl 0 rfl) ?_
    refine m_ldcS 1 X hVs (by decide) rfl dX6_asked_14 ?_
    obtain ⟨v6, e5, hF⟩ := ob_s hF
    refine m_callV (As := [.ref (V (2 + 1))]) (rest := []) X hp (w_X6_is hVs e5) q643 q645 qs10 q148 q646 1 rfl ds_X6_is ⟨Nat.le_of_ble_eq_true rfl, Nat.le_of_ble_eq_true rfl⟩ 7 (T := TX6) (N := 10) rfl (by decide) g1 hl.1 rfl (Nat.le_of_ble_eq_true rfl) dX6_asked_16 ⟨Nat.le_refl 0, Nat.le_refl 0⟩ (fun H locs hp => ?_)
    refine lv_if_eq (tgt := 26) hx hb dX6_asked_19 (by decide) (fun c7 => ?_) (fun c7 => ?_)
    · have hF := if_p c7 hF
      refine lv_aload_n hx hb dX6_asked_26 rfl (lv_at hl 0 rfl) ?_
      refine m_ldcS 2 X hVs (by decide) rfl dX6_asked_27 ?_
      obtain ⟨v9, e8, hF⟩ := ob_s hF
      refine m_callV (As := [.ref (V (2 + 2))]) (rest := []) X hp (w_X6_is hVs e8) q643 q645 qs10 q148 q646 1 rfl ds_X6_is ⟨Nat.le_of_ble_eq_true rfl, Nat.le_of_ble_eq_true rfl⟩ 7 (T := TX6) (N := 10) rfl (by decide) g1 hl.1 rfl (Nat.le_of_ble_eq_true rfl) dX6_asked_29 ⟨Nat.le_refl 0, Nat.le_refl 0⟩ (fun H locs hp => ?_)
      refine lv_if_eq (tgt := 39) hx hb dX6_asked_32 (by decide) (fun c10 => ?_) (fun c10 => ?_)
      · have hF := if_p c10 hF
        refine lv_aload_n hx hb dX6_asked_39 rfl (lv_at hl 0 rfl) ?_
        refine m_ldcS 3 X hVs (by decide) rfl dX6_asked_40 ?_
        obtain ⟨v12, e11, hF⟩ := ob_s hF
        refine m_callV (As := [.ref (V (2 + 3))]) (rest := []) X hp (w_X6_is hVs e11) q643 q645 qs10 q148 q646 1 rfl ds_X6_is ⟨Nat.le_of_ble_eq_true rfl, Nat.le_of_ble_eq_true rfl⟩ 7 (T := TX6) (N := 10) rfl (by decide) g1 hl.1 rfl (Nat.le_of_ble_eq_true rfl) dX6_asked_42 ⟨Nat.le_refl 0, Nat.le_refl 0⟩ (fun H locs hp => ?_)
        refine lv_if_eq (tgt := 52) hx hb dX6_asked_45 (by decide) (fun c13 => ?_) (fun c13 => ?_)
        · have hF := if_p c13 hF
          refine lv_aload_n hx hb dX6_asked_52 rfl (lv_at hl 0 rfl) ?_
          refine m_ldcS 4 X hVs (by decide) rfl dX6_asked_53 ?_
          obtain ⟨v15, e14, hF⟩ := ob_s hF
          refine m_callV (As := [.ref (V (2 + 4))]) (rest := []) X hp (w_X6_is hVs e14) q643 q645 qs10 q148 q646 1 rfl ds_X6_is ⟨Nat.le_of_ble_eq_true rfl, Nat.le_of_ble_eq_true rfl⟩ 7 (T := TX6) (N := 10) rfl (by decide) g1 hl.1 rfl (Nat.le_of_ble_eq_true rfl) dX6_asked_55 ⟨Nat.le_refl 0, Nat.le_refl 0⟩ (fun H locs hp => ?_)
          refine lv_if_eq (tgt := 65) hx hb dX6_asked_58 (by decide) (fun c16 => ?_) (fun c16 => ?_)
          · have hF := if_p c16 hF
            refine lv_aload_n hx hb dX6_asked_65 rfl (lv_at hl 0 rfl) ?_
            refine m_ldcS 5 X hVs (by decide) rfl dX6_asked_66 ?_
            obtain ⟨v18, e17, hF⟩ := ob_s hF
            refine m_callV (As := [.ref (V (2 + 5))]) (rest := []) X hp (w_X6_is hVs e17) q643 q645 qs10 q148 q646 1 rfl ds_X6_is ⟨Nat.le_of_ble_eq_true rfl, Nat.le_of_ble_eq_true rfl⟩ 7 (T := TX6) (N := 10) rfl (by decide) g1 hl.1 rfl (Nat.le_of_ble_eq_true rfl) dX6_asked_68 ⟨Nat.le_refl 0, Nat.le_refl 0⟩ (fun H locs hp => ?_)
            refine lv_if_eq (tgt := 78) hx hb dX6_asked_71 (by decide) (fun c19 => ?_) (fun c19 => ?_)
            · have hF := if_p c19 hF
              refine lv_aload_n hx hb dX6_asked_78 rfl (lv_at hl 0 rfl) ?_
              refine m_ldcS 6 X hVs (by decide) rfl dX6_asked_79 ?_
              obtain ⟨v21, e20, hF⟩ := ob_s hF
              refine m_callV (As := [.ref (V (2 + 6))]) (rest := []) X hp (w_X6_is hVs e20) q643 q645 qs10 q148 q646 1 rfl ds_X6_is ⟨Nat.le_of_ble_eq_true rfl, Nat.le_of_ble_eq_true rfl⟩ 7 (T := TX6) (N := 10) rfl (by decide) g1 hl.1 rfl (Nat.le_of_ble_eq_true rfl) dX6_asked_81 ⟨Nat.le_refl 0, Nat.le_refl 0⟩ (fun H locs hp => ?_)
              refine lv_if_eq (tgt := 91) hx hb dX6_asked_84 (by decide) (fun c22 => ?_) (fun c22 => ?_)
              · have hF := if_p c22 hF
                refine lv_aload_n hx hb dX6_asked_91 rfl (lv_at hl 0 rfl) ?_
                refine m_ldcS 7 X hVs (by decide) rfl dX6_asked_92 ?_
                obtain ⟨v24, e23, hF⟩ := ob_s hF
                refine m_callV (As := [.ref (V (2 + 7))]) (rest := []) X hp (w_X6_is hVs e23) q643 q645 qs10 q148 q646 1 rfl ds_X6_is ⟨Nat.le_of_ble_eq_true rfl, Nat.le_of_ble_eq_true rfl⟩ 7 (T := TX6) (N := 10) rfl (by decide) g1 hl.1 rfl (Nat.le_of_ble_eq_true rfl) dX6_asked_94 ⟨Nat.le_refl 0, Nat.le_refl 0⟩ (fun H locs hp => ?_)
                refine lv_if_eq (tgt := 104) hx hb dX6_asked_97 (by decide) (fun c25 => ?_) (fun c25 => ?_)
                · have hF := if_p c25 hF
                  refine lv_aload_n hx hb dX6_asked_104 rfl (lv_at hl 0 rfl) ?_
                  refine m_ldcS 8 X hVs (by decide) rfl dX6_asked_105 ?_
                  obtain ⟨v27, e26, hF⟩ := ob_s hF
                  refine m_callV (As := [.ref (V (2 + 8))]) (rest := []) X hp (w_X6_is hVs e26) q643 q645 qs10 q148 q646 1 rfl ds_X6_is ⟨Nat.le_of_ble_eq_true rfl, Nat.le_of_ble_eq_true rfl⟩ 7 (T := TX6) (N := 10) rfl (by decide) g1 hl.1 rfl (Nat.le_of_ble_eq_true rfl) dX6_asked_107 ⟨Nat.le_refl 0, Nat.le_refl 0⟩ (fun H locs hp => ?_)
                  refine lv_if_eq (tgt := 117) hx hb dX6_asked_110 (by decide) (fun c28 => ?_) (fun c28 => ?_)
                  · have hF := if_p c28 hF
                    refine lv_aload_n hx hb dX6_asked_117 rfl (lv_at hl 0 rfl) ?_
                    refine m_ldcS 9 X hVs (by decide) rfl dX6_asked_118 ?_
                    obtain ⟨v30, e29, hF⟩ := ob_s hF
                    refine m_callV (As := [.ref (V (2 + 9))]) (rest := []) X hp (w_X6_is hVs e29) q643 q645 qs10 q148 q646 1 rfl ds_X6_is ⟨Nat.le_of_ble_eq_true rfl, Nat.le_of_ble_eq_true rfl⟩ 7 (T := TX6) (N := 10) rfl (by decide) g1 hl.1 rfl (Nat.le_of_ble_eq_true rfl) dX6_asked_120 ⟨Nat.le_refl 0, Nat.le_refl 0⟩ (fun H locs hp => ?_)
                    refine lv_if_eq (tgt := 132) hx hb dX6_asked_123 (by decide) (fun c31 => ?_) (fun c31 => ?_)
                    · have hF := if_p c31 hF
                      refine lv_iconst (v := 1) hx hb dX6_asked_132 (by decide) ?_
                      cases hF
                      exact m_iret X hp dX6_asked_133
                    · have hF := if_n c31 hF
                      refine lv_sipush (v := 189) hx hb dX6_asked_126 (by decide) ?_
                      refine lv_goto (tgt := 133) hx hb dX6_asked_129 (by decide) ?_
                      cases hF
                      exact m_iret X hp dX6_asked_133
                  · have hF := if_n c28 hF
                    refine lv_sipush (v := 188) hx hb dX6_asked_113 (by decide) ?_
                    cases hF
                    exact m_iret X hp dX6_asked_116
                · have hF := if_n c25 hF
                  refine lv_sipush (v := 187) hx hb dX6_asked_100 (by decide) ?_
                  cases hF
                  exact m_iret X hp dX6_asked_103
              · have hF := if_n c22 hF
                refine lv_sipush (v := 186) hx hb dX6_asked_87 (by decide) ?_
                cases hF
                exact m_iret X hp dX6_asked_90
            · have hF := if_n c19 hF
              refine lv_sipush (v := 185) hx hb dX6_asked_74 (by decide) ?_
              cases hF
              exact m_iret X hp dX6_asked_77
          · have hF := if_n c16 hF
            refine lv_sipush (v := 184) hx hb dX6_asked_61 (by decide) ?_
            cases hF
            exact m_iret X hp dX6_asked_64
        · have hF := if_n c13 hF
          refine lv_sipush (v := 183) hx hb dX6_asked_48 (by decide) ?_
          cases hF
          exact m_iret X hp dX6_asked_51
      · have hF := if_n c10 hF
        refine lv_sipush (v := 182) hx hb dX6_asked_35 (by decide) ?_
        cases hF
        exact m_iret X hp dX6_asked_38
    · have hF := if_n c7 hF
      refine lv_sipush (v := 181) hx hb dX6_asked_22 (by decide) ?_
      cases hF
      exact m_iret X hp dX6_asked_25
  · have hF := if_n c4 hF
    refine lv_sipush (v := 180) hx hb dX6_asked_9 (by decide) ?_
    cases hF
    exact m_iret X hp dX6_asked_12
end
section
variable {l : Launch} {D : va_G} {n0 : Nat} {P : mP} {V : Nat → Nat} {S : mSh} {M : mMm} {n : Nat} {p : Program} {e : Env} {s : State} {m : MethodId} {args : Array Value} {below : List Frame} {meth : Method} {c : Code}
abbrev Rm_X6_lawWord : Room := { frames := 6, cells := 0, slots := 0, locals := 184 }
def f_X6_lawWord (V : Nat → Nat) (S : mSh) (M : mMm) (x0 : Nat) : Option Int32 := gd ((S x0).1 = 7) (ob (f_X6_is V S M x0 10) fun v3 => (if v3 = 0 then ob (f_X6_is V S M x0 11) fun v6 => (if v6 = 0 then ob (f_X6_is V S M x0 12) fun v9 => (if v9 = 0 then ob (f_X6_is V S M x0 13) fun v12 => (if v12 = 0 then ob (f_X6_is V S M x0 14) fun v15 => (if v15 = 0 then ob (f_X6_is V S M x0 15) fun v18 => (if v18 = 0 then ob (f_X6_is V S M x0 16) fun v21 => (if v21 = 0 then ob (f_X6_asked V S M x0) fun v24 => some v24 else some (9 : Int32)) else some (8 : Int32)) else some (7 : Int32)) else some (6 : Int32)) else some (5 : Int32)) else some (4 : Int32)) else some (3 : Int32)))
theorem w_X6_lawWord {x0 : Nat} {r : Int32} (hVs : mVs V n0 P) (hF : f_X6_lawWord V S M x0 = some r) : mCt l D n0 P yX6_lawWord cX6_lawWord 1 (some .int) 6 184 0 0 [.ref x0] S M n (some (.int r)) S M n := by
  refine m_ofW (by decide) (Nat.le_of_ble_eq_true rfl) (fun p e s m below meth c X hnm hp ls hl => ?_)
  have hx := X.1.1
  have hb := X.1.2.1
  have hown := X.1.2.2.2.1
  have hts := X.1.2.2.2.2
  have hl : lv_has ls 1 [(0, .ref x0)] := hl
  unfold f_X6_lawWord at hF
  refine lv_aload_n hx hb dX6_lawWord_0 rfl (lv_at hl 0 rfl) ?_
  refine m_ldcS 10 X hVs (by decide) rfl dX6_lawWord_1 ?_
  obtain ⟨g1, hF⟩ := gd_s hF
  obtain ⟨v3, e2, hF⟩ := ob_s hF
  refine m_callV (As := [.ref (V (2 + 10))]) (rest := []) X hp (w_X6_is hVs e2) q643 q645 qs10 q148 q646 1 rfl ds_X6_is ⟨Nat.le_of_ble_eq_true rfl, Nat.le_of_ble_eq_true rfl⟩ 7 (T := TX6) (N := 10) rfl (by decide) g1 hl.1 rfl (Nat.le_of_ble_eq_true rfl) dX6_lawWord_3 ⟨Nat.le_refl 0, Nat.le_refl 0⟩ (fun H locs hp => ?_)
  refine lv_if_eq (tgt := 11) hx hb dX6_lawWord_6 (by decide) (fun c4 => ?_) (fun c4 => ?_)
  · have hF := if_p c4 hF
    refine lv_aload_n hx hb dX6_lawWord_11 rfl (lv_at hl 0 rfl) ?_
    refine m_ldcS 11 X hVs (by decide) rfl dX6_lawWord_12 ?_
    obtain ⟨v6, e5, hF⟩ := ob_s hF
    refine m_callV (As := [.ref (V (2 + 11))]) (rest := []) X hp (w_X6_is hVs e5) q643 q645 qs10 q148 q646 1 rfl ds_X6_is ⟨Nat.le_of_ble_eq_true rfl, Nat.le_of_ble_eq_true rfl⟩ 7 (T := TX6) (N := 10) rfl (by decide) g1 hl.1 rfl (Nat.le_of_ble_eq_true rfl) dX6_lawWord_14 ⟨Nat.le_refl 0, Nat.le_refl 0⟩ (fun H locs hp => ?_)
    refine lv_if_eq (tgt := 22) hx hb dX6_lawWord_17 (by decide) (fun c7 => ?_) (fun c7 => ?_)
    · have hF := if_p c7 hF
      refine lv_aload_n hx hb dX6_lawWord_22 rfl (lv_at hl 0 rfl) ?_
      refine m_ldcS 12 X hVs (by decide) rfl dX6_lawWord_23 ?_
      obtain ⟨v9, e8, hF⟩ := ob_s hF
      refine m_callV (As := [.ref (V (2 + 12))]) (rest := []) X hp (w_X6_is hVs e8) q643 q645 qs10 q148 q646 1 rfl ds_X6_is ⟨Nat.le_of_ble_eq_true rfl, Nat.le_of_ble_eq_true rfl⟩ 7 (T := TX6) (N := 10) rfl (by decide) g1 hl.1 rfl (Nat.le_of_ble_eq_true rfl) dX6_lawWord_25 ⟨Nat.le_refl 0, Nat.le_refl 0⟩ (fun H locs hp => ?_)
      refine lv_if_eq (tgt := 33) hx hb dX6_lawWord_28 (by decide) (fun c10 => ?_) (fun c10 => ?_)
      · have hF := if_p c10 hF
        refine lv_aload_n hx hb dX6_lawWord_33 rfl (lv_at hl 0 rfl) ?_
        refine m_ldcS 13 X hVs (by decide) rfl dX6_lawWord_34 ?_
        obtain ⟨v12, e11, hF⟩ := ob_s hF
        refine m_callV (As := [.ref (V (2 + 13))]) (rest := []) X hp (w_X6_is hVs e11) q643 q645 qs10 q148 q646 1 rfl ds_X6_is ⟨Nat.le_of_ble_eq_true rfl, Nat.le_of_ble_eq_true rfl⟩ 7 (T := TX6) (N := 10) rfl (by decide) g1 hl.1 rfl (Nat.le_of_ble_eq_true rfl) dX6_lawWord_36 ⟨Nat.le_refl 0, Nat.le_refl 0⟩ (fun H locs hp => ?_)
        refine lv_if_eq (tgt := 45) hx hb dX6_lawWord_39 (by decide) (fun c13 => ?_) (fun c13 => ?_)
        · have hF := if_p c13 hF
          refine lv_aload_n hx hb dX6_lawWord_45 rfl (lv_at hl 0 rfl) ?_
          refine m_ldcS 14 X hVs (by decide) rfl dX6_lawWord_46 ?_
          obtain ⟨v15, e14, hF⟩ := ob_s hF
          refine m_callV (As := [.ref (V (2 + 14))]) (rest := []) X hp (w_X6_is hVs e14) q643 q645 qs10 q148 q646 1 rfl ds_X6_is ⟨Nat.le_of_ble_eq_true rfl, Nat.le_of_ble_eq_true rfl⟩ 7 (T := TX6) (N := 10) rfl (by decide) g1 hl.1 rfl (Nat.le_of_ble_eq_true rfl) dX6_lawWord_48 ⟨Nat.le_refl 0, Nat.le_refl 0⟩ (fun H locs hp => ?_)
          refine lv_if_eq (tgt := 57) hx hb dX6_lawWord_51 (by decide) (fun c16 => ?_) (fun c16 => ?_)
          · have hF := if_p c16 hF
            refine lv_aload_n hx hb dX6_lawWord_57 rfl (lv_at hl 0 rfl) ?_
            refine m_ldcS 15 X hVs (by decide) rfl dX6_lawWord_58 ?_
            obtain ⟨v18, e17, hF⟩ := ob_s hF
            refine m_callV (As := [.ref (V (2 + 15))]) (rest := []) X hp (w_X6_is hVs e17) q643 q645 qs10 q148 q646 1 rfl ds_X6_is ⟨Nat.le_of_ble_eq_true rfl, Nat.le_of_ble_eq_true rfl⟩ 7 (T := TX6) (N := 10) rfl (by decide) g1 hl.1 rfl (Nat.le_of_ble_eq_true rfl) dX6_lawWord_60 ⟨Nat.le_refl 0, Nat.le_refl 0⟩ (fun H locs hp => ?_)
            refine lv_if_eq (tgt := 69) hx hb dX6_lawWord_63 (by decide) (fun c19 => ?_) (fun c19 => ?_)
            · have hF := if_p c19 hF
              refine lv_aload_n hx hb dX6_lawWord_69 rfl (lv_at hl 0 rfl) ?_
              refine m_ldcS 16 X hVs (by decide) rfl dX6_lawWord_70 ?_
              obtain ⟨v21, e20, hF⟩ := ob_s hF
              refine m_callV (As := [.ref (V (2 + 16))]) (rest := []) X hp (w_X6_is hVs e20) q643 q645 qs10 q148 q646 1 rfl ds_X6_is ⟨Nat.le_of_ble_eq_true rfl, Nat.le_of_ble_eq_true rfl⟩ 7 (T := TX6) (N := 10) rfl (by decide) g1 hl.1 rfl (Nat.le_of_ble_eq_true rfl) dX6_lawWord_72 ⟨Nat.le_refl 0, Nat.le_refl 0⟩ (fun H locs hp => ?_)
              refine lv_if_eq (tgt := 83) hx hb dX6_lawWord_75 (by decide) (fun c22 => ?_) (fun c22 => ?_)
              · have hF := if_p c22 hF
                refine lv_aload_n hx hb dX6_lawWord_83 rfl (lv_at hl 0 rfl) ?_
                obtain ⟨v24, e23, hF⟩ := ob_s hF
                refine m_callV (As := []) (rest := []) X hp (w_X6_asked hVs e23) q701 q703 qs11 q148 q704 0 rfl ds_X6_asked ⟨Nat.le_of_ble_eq_true rfl, Nat.le_of_ble_eq_true rfl⟩ 7 (T := TX6) (N := 10) rfl (by decide) g1 hl.1 rfl (Nat.le_of_ble_eq_true rfl) dX6_lawWord_84 ⟨Nat.le_refl 0, Nat.le_refl 0⟩ (fun H locs hp => ?_)
                cases hF
                exact m_iret X hp dX6_lawWord_87
              · have hF := if_n c22 hF
                refine lv_bipush (v := 9) hx hb dX6_lawWord_78 (by decide) ?_
                refine lv_goto (tgt := 87) hx hb dX6_lawWord_80 (by decide) ?_
                cases hF
                exact m_iret X hp dX6_lawWord_87
            · have hF := if_n c19 hF
              refine lv_bipush (v := 8) hx hb dX6_lawWord_66 (by decide) ?_
              cases hF
              exact m_iret X hp dX6_lawWord_68
          · have hF := if_n c16 hF
            refine lv_bipush (v := 7) hx hb dX6_lawWord_54 (by decide) ?_
            cases hF
            exact m_iret X hp dX6_lawWord_56
        · have hF := if_n c13 hF
          refine lv_bipush (v := 6) hx hb dX6_lawWord_42 (by decide) ?_
          cases hF
          exact m_iret X hp dX6_lawWord_44
      · have hF := if_n c10 hF
        refine lv_iconst (v := 5) hx hb dX6_lawWord_31 (by decide) ?_
        cases hF
        exact m_iret X hp dX6_lawWord_32
    · have hF := if_n c7 hF
      refine lv_iconst (v := 4) hx hb dX6_lawWord_20 (by decide) ?_
      cases hF
      exact m_iret X hp dX6_lawWord_21
  · have hF := if_n c4 hF
    refine lv_iconst (v := 3) hx hb dX6_lawWord_9 (by decide) ?_
    cases hF
    exact m_iret X hp dX6_lawWord_10
end
section
variable {l : Launch} {D : va_G} {n0 : Nat} {P : mP} {V : Nat → Nat} {S : mSh} {M : mMm} {n : Nat} {p : Program} {e : Env} {s : State} {m : MethodId} {args : Array Value} {below : List Frame} {meth : Method} {c : Code}
abbrev Rm_X6_stoneWord : Room := { frames := 5, cells := 0, slots := 0, locals := 164 }
def f_X6_stoneWord (V : Nat → Nat) (S : mSh) (M : mMm) (x0 : Nat) : Option Int32 := gd ((S x0).1 = 7) (ob (f_X6_is V S M x0 17) fun v3 => (if v3 = 0 then ob (f_X6_is V S M x0 18) fun v6 => (if v6 = 0 then ob (f_X6_is V S M x0 6) fun v9 => (if v9 = 0 then ob (f_X6_is V S M x0 19) fun v12 => (if v12 = 0 then ob (f_X6_is V S M x0 20) fun v15 => (if v15 = 0 then some (1 : Int32) else some (14 : Int32)) else some (13 : Int32)) else some (12 : Int32)) else some (11 : Int32)) else some (10 : Int32)))
theorem w_X6_stoneWord {x0 : Nat} {r : Int32} (hVs : mVs V n0 P) (hF : f_X6_stoneWord V S M x0 = some r) : mCt l D n0 P yX6_stoneWord cX6_stoneWord 1 (some .int) 5 164 0 0 [.ref x0] S M n (some (.int r)) S M n := by
  refine m_ofW (by decide) (Nat.le_of_ble_eq_true rfl) (fun p e s m below meth c X hnm hp ls hl => ?_)
  have hx := X.1.1
  have hb := X.1.2.1
  have hown := X.1.2.2.2.1
  have hts := X.1.2.2.2.2
  have hl : lv_has ls 1 [(0, .ref x0)] := hl
  unfold f_X6_stoneWord at hF
  refine lv_aload_n hx hb dX6_stoneWord_0 rfl (lv_at hl 0 rfl) ?_
  refine m_ldcS 17 X hVs (by decide) rfl dX6_stoneWord_1 ?_
  obtain ⟨g1, hF⟩ := gd_s hF
  obtain ⟨v3, e2, hF⟩ := ob_s hF
  refine m_callV (As := [.ref (V (2 + 17))]) (rest := []) X hp (w_X6_is hVs e2) q643 q645 qs10 q148 q646 1 rfl ds_X6_is ⟨Nat.le_of_ble_eq_true rfl, Nat.le_of_ble_eq_true rfl⟩ 7 (T := TX6) (N := 10) rfl (by decide) g1 hl.1 rfl (Nat.le_of_ble_eq_true rfl) dX6_stoneWord_3 ⟨Nat.le_refl 0, Nat.le_refl 0⟩ (fun H locs hp => ?_)
  refine lv_if_eq (tgt := 12) hx hb dX6_stoneWord_6 (by decide) (fun c4 => ?_) (fun c4 => ?_)
  · have hF := if_p c4 hF
    refine lv_aload_n hx hb dX6_stoneWord_12 rfl (lv_at hl 0 rfl) ?_
    refine m_ldcS 18 X hVs (by decide) rfl dX6_stoneWord_13 ?_
    obtain ⟨v6, e5, hF⟩ := ob_s hF
    refine m_callV (As := [.ref (V (2 + 18))]) (rest := []) X hp (w_X6_is hVs e5) q643 q645 qs10 q148 q646 1 rfl ds_X6_is ⟨Nat.le_of_ble_eq_true rfl, Nat.le_of_ble_eq_true rfl⟩ 7 (T := TX6) (N := 10) rfl (by decide) g1 hl.1 rfl (Nat.le_of_ble_eq_true rfl) dX6_stoneWord_15 ⟨Nat.le_refl 0, Nat.le_refl 0⟩ (fun H locs hp => ?_)
    refine lv_if_eq (tgt := 24) hx hb dX6_stoneWord_18 (by decide) (fun c7 => ?_) (fun c7 => ?_)
    · have hF := if_p c7 hF
      refine lv_aload_n hx hb dX6_stoneWord_24 rfl (lv_at hl 0 rfl) ?_
      refine m_ldcS 6 X hVs (by decide) rfl dX6_stoneWord_25 ?_
      obtain ⟨v9, e8, hF⟩ := ob_s hF
      refine m_callV (As := [.ref (V (2 + 6))]) (rest := []) X hp (w_X6_is hVs e8) q643 q645 qs10 q148 q646 1 rfl ds_X6_is ⟨Nat.le_of_ble_eq_true rfl, Nat.le_of_ble_eq_true rfl⟩ 7 (T := TX6) (N := 10) rfl (by decide) g1 hl.1 rfl (Nat.le_of_ble_eq_true rfl) dX6_stoneWord_27 ⟨Nat.le_refl 0, Nat.le_refl 0⟩ (fun H locs hp => ?_)
      refine lv_if_eq (tgt := 36) hx hb dX6_stoneWord_30 (by decide) (fun c10 => ?_) (fun c10 => ?_)
      · have hF := if_p c10 hF
        refine lv_aload_n hx hb dX6_stoneWord_36 rfl (lv_at hl 0 rfl) ?_
        refine m_ldcS 19 X hVs (by decide) rfl dX6_stoneWord_37 ?_
        obtain ⟨v12, e11, hF⟩ := ob_s hF
        refine m_callV (As := [.ref (V (2 + 19))]) (rest := []) X hp (w_X6_is hVs e11) q643 q645 qs10 q148 q646 1 rfl ds_X6_is ⟨Nat.le_of_ble_eq_true rfl, Nat.le_of_ble_eq_true rfl⟩ 7 (T := TX6) (N := 10) rfl (by decide) g1 hl.1 rfl (Nat.le_of_ble_eq_true rfl) dX6_stoneWord_39 ⟨Nat.le_refl 0, Nat.le_refl 0⟩ (fun H locs hp => ?_)
        refine lv_if_eq (tgt := 48) hx hb dX6_stoneWord_42 (by decide) (fun c13 => ?_) (fun c13 => ?_)
        · have hF := if_p c13 hF
          refine lv_aload_n hx hb dX6_stoneWord_48 rfl (lv_at hl 0 rfl) ?_
          refine m_ldcS 20 X hVs (by decide) rfl dX6_stoneWord_49 ?_
          obtain ⟨v15, e14, hF⟩ := ob_s hF
          refine m_callV (As := [.ref (V (2 + 20))]) (rest := []) X hp (w_X6_is hVs e14) q643 q645 qs10 q148 q646 1 rfl ds_X6_is ⟨Nat.le_of_ble_eq_true rfl, Nat.le_of_ble_eq_true rfl⟩ 7 (T := TX6) (N := 10) rfl (by decide) g1 hl.1 rfl (Nat.le_of_ble_eq_true rfl) dX6_stoneWord_51 ⟨Nat.le_refl 0, Nat.le_refl 0⟩ (fun H locs hp => ?_)
          refine lv_if_eq (tgt := 62) hx hb dX6_stoneWord_54 (by decide) (fun c16 => ?_) (fun c16 => ?_)
          · have hF := if_p c16 hF
            refine lv_iconst (v := 1) hx hb dX6_stoneWord_62 (by decide) ?_
            cases hF
            exact m_iret X hp dX6_stoneWord_63
          · have hF := if_n c16 hF
            refine lv_bipush (v := 14) hx hb dX6_stoneWord_57 (by decide) ?_
            refine lv_goto (tgt := 63) hx hb dX6_stoneWord_59 (by decide) ?_
            cases hF
            exact m_iret X hp dX6_stoneWord_63
        · have hF := if_n c13 hF
          refine lv_bipush (v := 13) hx hb dX6_stoneWord_45 (by decide) ?_
          cases hF
          exact m_iret X hp dX6_stoneWord_47
      · have hF := if_n c10 hF
        refine lv_bipush (v := 12) hx hb dX6_stoneWord_33 (by decide) ?_
        cases hF
        exact m_iret X hp dX6_stoneWord_35
    · have hF := if_n c7 hF
      refine lv_bipush (v := 11) hx hb dX6_stoneWord_21 (by decide) ?_
      cases hF
      exact m_iret X hp dX6_stoneWord_23
  · have hF := if_n c4 hF
    refine lv_bipush (v := 10) hx hb dX6_stoneWord_9 (by decide) ?_
    cases hF
    exact m_iret X hp dX6_stoneWord_11
end
section
variable {l : Launch} {D : va_G} {n0 : Nat} {P : mP} {V : Nat → Nat} {S : mSh} {M : mMm} {n : Nat} {p : Program} {e : Env} {s : State} {m : MethodId} {args : Array Value} {below : List Frame} {meth : Method} {c : Code}
abbrev Rm_X6_wayWord : Room := { frames := 5, cells := 0, slots := 0, locals := 164 }
def f_X6_wayWord (V : Nat → Nat) (S : mSh) (M : mMm) (x0 : Nat) : Option Int32 := gd ((S x0).1 = 7) (ob (f_X6_is V S M x0 21) fun v3 => (if v3 = 0 then ob (f_X6_is V S M x0 22) fun v6 => (if v6 = 0 then ob (f_X6_is V S M x0 23) fun v9 => (if v9 = 0 then ob (f_X6_is V S M x0 24) fun v12 => (if v12 = 0 then ob (f_X6_is V S M x0 25) fun v15 => (if v15 = 0 then ob (f_X6_is V S M x0 26) fun v18 => (if v18 = 0 then some (1 : Int32) else some (20 : Int32)) else some (19 : Int32)) else some (18 : Int32)) else some (17 : Int32)) else some (16 : Int32)) else some (15 : Int32)))
theorem w_X6_wayWord {x0 : Nat} {r : Int32} (hVs : mVs V n0 P) (hF : f_X6_wayWord V S M x0 = some r) : mCt l D n0 P yX6_wayWord cX6_wayWord 1 (some .int) 5 164 0 0 [.ref x0] S M n (some (.int r)) S M n := by
  refine m_ofW (by decide) (Nat.le_of_ble_eq_true rfl) (fun p e s m below meth c X hnm hp ls hl => ?_)
  have hx := X.1.1
  have hb := X.1.2.1
  have hown := X.1.2.2.2.1
  have hts := X.1.2.2.2.2
  have hl : lv_has ls 1 [(0, .ref x0)] := hl
  unfold f_X6_wayWord at hF
  refine lv_aload_n hx hb dX6_wayWord_0 rfl (lv_at hl 0 rfl) ?_
  refine m_ldcS 21 X hVs (by decide) rfl dX6_wayWord_1 ?_
  obtain ⟨g1, hF⟩ := gd_s hF
  obtain ⟨v3, e2, hF⟩ := ob_s hF
  refine m_callV (As := [.ref (V (2 + 21))]) (rest := []) X hp (w_X6_is hVs e2) q643 q645 qs10 q148 q646 1 rfl ds_X6_is ⟨Nat.le_of_ble_eq_true rfl, Nat.le_of_ble_eq_true rfl⟩ 7 (T := TX6) (N := 10) rfl (by decide) g1 hl.1 rfl (Nat.le_of_ble_eq_true rfl) dX6_wayWord_3 ⟨Nat.le_refl 0, Nat.le_refl 0⟩ (fun H locs hp => ?_)
  refine lv_if_eq (tgt := 12) hx hb dX6_wayWord_6 (by decide) (fun c4 => ?_) (fun c4 => ?_)
  · have hF := if_p c4 hF
    refine lv_aload_n hx hb dX6_wayWord_12 rfl (lv_at hl 0 rfl) ?_
    refine m_ldcS 22 X hVs (by decide) rfl dX6_wayWord_13 ?_
    obtain ⟨v6, e5, hF⟩ := ob_s hF
    refine m_callV (As := [.ref (V (2 + 22))]) (rest := []) X hp (w_X6_is hVs e5) q643 q645 qs10 q148 q646 1 rfl ds_X6_is ⟨Nat.le_of_ble_eq_true rfl, Nat.le_of_ble_eq_true rfl⟩ 7 (T := TX6) (N := 10) rfl (by decide) g1 hl.1 rfl (Nat.le_of_ble_eq_true rfl) dX6_wayWord_15 ⟨Nat.le_refl 0, Nat.le_refl 0⟩ (fun H locs hp => ?_)
    refine lv_if_eq (tgt := 24) hx hb dX6_wayWord_18 (by decide) (fun c7 => ?_) (fun c7 => ?_)
    · have hF := if_p c7 hF
      refine lv_aload_n hx hb dX6_wayWord_24 rfl (lv_at hl 0 rfl) ?_
      refine m_ldcS 23 X hVs (by decide) rfl dX6_wayWord_25 ?_
      obtain ⟨v9, e8, hF⟩ := ob_s hF
      refine m_callV (As := [.ref (V (2 + 23))]) (rest := []) X hp (w_X6_is hVs e8) q643 q645 qs10 q148 q646 1 rfl ds_X6_is ⟨Nat.le_of_ble_eq_true rfl, Nat.le_of_ble_eq_true rfl⟩ 7 (T := TX6) (N := 10) rfl (by decide) g1 hl.1 rfl (Nat.le_of_ble_eq_true rfl) dX6_wayWord_27 ⟨Nat.le_refl 0, Nat.le_refl 0⟩ (fun H locs hp => ?_)
      refine lv_if_eq (tgt := 36) hx hb dX6_wayWord_30 (by decide) (fun c10 => ?_) (fun c10 => ?_)
      · have hF := if_p c10 hF
        refine lv_aload_n hx hb dX6_wayWord_36 rfl (lv_at hl 0 rfl) ?_
        refine m_ldcS 24 X hVs (by decide) rfl dX6_wayWord_37 ?_
        obtain ⟨v12, e11, hF⟩ := ob_s hF
        refine m_callV (As := [.ref (V (2 + 24))]) (rest := []) X hp (w_X6_is hVs e11) q643 q645 qs10 q148 q646 1 rfl ds_X6_is ⟨Nat.le_of_ble_eq_true rfl, Nat.le_of_ble_eq_true rfl⟩ 7 (T := TX6) (N := 10) rfl (by decide) g1 hl.1 rfl (Nat.le_of_ble_eq_true rfl) dX6_wayWord_39 ⟨Nat.le_refl 0, Nat.le_refl 0⟩ (fun H locs hp => ?_)
        refine lv_if_eq (tgt := 48) hx hb dX6_wayWord_42 (by decide) (fun c13 => ?_) (fun c13 => ?_)
        · have hF := if_p c13 hF
          refine lv_aload_n hx hb dX6_wayWord_48 rfl (lv_at hl 0 rfl) ?_
          refine m_ldcS 25 X hVs (by decide) rfl dX6_wayWord_49 ?_
          obtain ⟨v15, e14, hF⟩ := ob_s hF
          refine m_callV (As := [.ref (V (2 + 25))]) (rest := []) X hp (w_X6_is hVs e14) q643 q645 qs10 q148 q646 1 rfl ds_X6_is ⟨Nat.le_of_ble_eq_true rfl, Nat.le_of_ble_eq_true rfl⟩ 7 (T := TX6) (N := 10) rfl (by decide) g1 hl.1 rfl (Nat.le_of_ble_eq_true rfl) dX6_wayWord_51 ⟨Nat.le_refl 0, Nat.le_refl 0⟩ (fun H locs hp => ?_)
          refine lv_if_eq (tgt := 60) hx hb dX6_wayWord_54 (by decide) (fun c16 => ?_) (fun c16 => ?_)
          · have hF := if_p c16 hF
            refine lv_aload_n hx hb dX6_wayWord_60 rfl (lv_at hl 0 rfl) ?_
            refine m_ldcS 26 X hVs (by decide) rfl dX6_wayWord_61 ?_
            obtain ⟨v18, e17, hF⟩ := ob_s hF
            refine m_callV (As := [.ref (V (2 + 26))]) (rest := []) X hp (w_X6_is hVs e17) q643 q645 qs10 q148 q646 1 rfl ds_X6_is ⟨Nat.le_of_ble_eq_true rfl, Nat.le_of_ble_eq_true rfl⟩ 7 (T := TX6) (N := 10) rfl (by decide) g1 hl.1 rfl (Nat.le_of_ble_eq_true rfl) dX6_wayWord_63 ⟨Nat.le_refl 0, Nat.le_refl 0⟩ (fun H locs hp => ?_)
            refine lv_if_eq (tgt := 74) hx hb dX6_wayWord_66 (by decide) (fun c19 => ?_) (fun c19 => ?_)
            · have hF := if_p c19 hF
              refine lv_iconst (v := 1) hx hb dX6_wayWord_74 (by decide) ?_
              cases hF
              exact m_iret X hp dX6_wayWord_75
            · have hF := if_n c19 hF
              refine lv_bipush (v := 20) hx hb dX6_wayWord_69 (by decide) ?_
              refine lv_goto (tgt := 75) hx hb dX6_wayWord_71 (by decide) ?_
              cases hF
              exact m_iret X hp dX6_wayWord_75
          · have hF := if_n c16 hF
            refine lv_bipush (v := 19) hx hb dX6_wayWord_57 (by decide) ?_
            cases hF
            exact m_iret X hp dX6_wayWord_59
        · have hF := if_n c13 hF
          refine lv_bipush (v := 18) hx hb dX6_wayWord_45 (by decide) ?_
          cases hF
          exact m_iret X hp dX6_wayWord_47
      · have hF := if_n c10 hF
        refine lv_bipush (v := 17) hx hb dX6_wayWord_33 (by decide) ?_
        cases hF
        exact m_iret X hp dX6_wayWord_35
    · have hF := if_n c7 hF
      refine lv_bipush (v := 16) hx hb dX6_wayWord_21 (by decide) ?_
      cases hF
      exact m_iret X hp dX6_wayWord_23
  · have hF := if_n c4 hF
    refine lv_bipush (v := 15) hx hb dX6_wayWord_9 (by decide) ?_
    cases hF
    exact m_iret X hp dX6_wayWord_11
end
section
variable {l : Launch} {D : va_G} {n0 : Nat} {P : mP} {V : Nat → Nat} {S : mSh} {M : mMm} {n : Nat} {p : Program} {e : Env} {s : State} {m : MethodId} {args : Array Value} {below : List Frame} {meth : Method} {c : Code}
abbrev Rm_X6_keyword : Room := { frames := 7, cells := 0, slots := 0, locals := 204 }
def f_X6_keyword (V : Nat → Nat) (S : mSh) (M : mMm) (x0 : Nat) : Option Int32 := ob (rI S M x0 7 0) fun v1 => (if v1 = (0 : Int32) then ob (f_X6_lawWord V S M x0) fun v5 => some v5 else (if v1 = (1 : Int32) then ob (f_X6_stoneWord V S M x0) fun v8 => some v8 else (if v1 = (2 : Int32) then ob (f_X6_wayWord V S M x0) fun v11 => some v11 else ob (f_X6_is V S M x0 27) fun v13 => (if v13 = 0 then ob (f_X6_is V S M x0 8) fun v16 => (if v16 = 0 then ob (f_X6_is V S M x0 28) fun v19 => (if v19 = 0 then some (1 : Int32) else some (23 : Int32)) else some (22 : Int32)) else some (21 : Int32)))))
theorem w_X6_keyword {x0 : Nat} {r : Int32} (hVs : mVs V n0 P) (hF : f_X6_keyword V S M x0 = some r) : mCt l D n0 P yX6_keyword cX6_keyword 1 (some .int) 7 204 0 0 [.ref x0] S M n (some (.int r)) S M n := by
  refine m_ofW (by decide) (Nat.le_of_ble_eq_true rfl) (fun p e s m below meth c X hnm hp ls hl => ?_)
  have hx := X.1.1
  have hb := X.1.2.1
  have hown := X.1.2.2.2.1
  have hts := X.1.2.2.2.2
  have hl : lv_has ls 1 [(0, .ref x0)] := hl
  unfold f_X6_keyword at hF
  refine lv_aload_n hx hb dX6_keyword_0 rfl (lv_at hl 0 rfl) ?_
  obtain ⟨v1, e2, hF⟩ := ob_s hF
  refine m_getI X hp e2 kX6 (Nat.le_of_ble_eq_true rfl) q585 dX6_keyword_1 ?_
  by_cases c3 : v1 = (0 : Int32)
  · have hF := if_p c3 hF
    refine lv_tableIn (x := v1) (tgt := 32) hx hb dX6_keyword_4 (by rw [c3]; decide) (by rw [c3]; decide) (by rw [c3]; rfl) (by decide) ?_
    refine lv_aload_n hx hb dX6_keyword_32 rfl (lv_at hl 0 rfl) ?_
    obtain ⟨v5, e4, hF⟩ := ob_s hF
    refine m_callV (As := []) (rest := []) X hp (w_X6_lawWord hVs e4) q638 q640 qs9 q148 q641 0 rfl ds_X6_lawWord ⟨Nat.le_of_ble_eq_true rfl, Nat.le_of_ble_eq_true rfl⟩ 7 (T := TX6) (N := 10) rfl (by decide) (rI_s e2).1 hl.1 rfl (Nat.le_of_ble_eq_true rfl) dX6_keyword_33 ⟨Nat.le_refl 0, Nat.le_refl 0⟩ (fun H locs hp => ?_)
    cases hF
    exact m_iret X hp dX6_keyword_36
  · have hF := if_n c3 hF
    by_cases c6 : v1 = (1 : Int32)
    · have hF := if_p c6 hF
      refine lv_tableIn (x := v1) (tgt := 37) hx hb dX6_keyword_4 (by rw [c6]; decide) (by rw [c6]; decide) (by rw [c6]; rfl) (by decide) ?_
      refine lv_aload_n hx hb dX6_keyword_37 rfl (lv_at hl 0 rfl) ?_
      obtain ⟨v8, e7, hF⟩ := ob_s hF
      refine m_callV (As := []) (rest := []) X hp (w_X6_stoneWord hVs e7) q715 q717 qs12 q148 q718 0 rfl ds_X6_stoneWord ⟨Nat.le_of_ble_eq_true rfl, Nat.le_of_ble_eq_true rfl⟩ 7 (T := TX6) (N := 10) rfl (by decide) (rI_s e2).1 hl.1 rfl (Nat.le_of_ble_eq_true rfl) dX6_keyword_38 ⟨Nat.le_refl 0, Nat.le_refl 0⟩ (fun H locs hp => ?_)
      cases hF
      exact m_iret X hp dX6_keyword_41
    · have hF := if_n c6 hF
      by_cases c9 : v1 = (2 : Int32)
      · have hF := if_p c9 hF
        refine lv_tableIn (x := v1) (tgt := 42) hx hb dX6_keyword_4 (by rw [c9]; decide) (by rw [c9]; decide) (by rw [c9]; rfl) (by decide) ?_
        refine lv_aload_n hx hb dX6_keyword_42 rfl (lv_at hl 0 rfl) ?_
        obtain ⟨v11, e10, hF⟩ := ob_s hF
        refine m_callV (As := []) (rest := []) X hp (w_X6_wayWord hVs e10) q723 q725 qs13 q148 q726 0 rfl ds_X6_wayWord ⟨Nat.le_of_ble_eq_true rfl, Nat.le_of_ble_eq_true rfl⟩ 7 (T := TX6) (N := 10) rfl (by decide) (rI_s e2).1 hl.1 rfl (Nat.le_of_ble_eq_true rfl) dX6_keyword_43 ⟨Nat.le_refl 0, Nat.le_refl 0⟩ (fun H locs hp => ?_)
        cases hF
        exact m_iret X hp dX6_keyword_46
      · have hF := if_n c9 hF
        refine lv_tableOut (x := v1) (tgt := 47) hx hb dX6_keyword_4 (tb_out 2 (by decide) (by decide) (fun j hj => by
          match j, hj with
          | 0, _ => exact c3
          | 1, _ => exact c6
          | 2, _ => exact c9
          | j + 3, hj => exact absurd hj (by omega))) (by decide) ?_
        refine lv_aload_n hx hb dX6_keyword_47 rfl (lv_at hl 0 rfl) ?_
        refine m_ldcS 27 X hVs (by decide) rfl dX6_keyword_48 ?_
        obtain ⟨v13, e12, hF⟩ := ob_s hF
        refine m_callV (As := [.ref (V (2 + 27))]) (rest := []) X hp (w_X6_is hVs e12) q643 q645 qs10 q148 q646 1 rfl ds_X6_is ⟨Nat.le_of_ble_eq_true rfl, Nat.le_of_ble_eq_true rfl⟩ 7 (T := TX6) (N := 10) rfl (by decide) (rI_s e2).1 hl.1 rfl (Nat.le_of_ble_eq_true rfl) dX6_keyword_50 ⟨Nat.le_refl 0, Nat.le_refl 0⟩ (fun H locs hp => ?_)
        refine lv_if_eq (tgt := 61) hx hb dX6_keyword_53 (by decide) (fun c14 => ?_) (fun c14 => ?_)
        · have hF := if_p c14 hF
          refine lv_aload_n hx hb dX6_keyword_61 rfl (lv_at hl 0 rfl) ?_
          refine m_ldcS 8 X hVs (by decide) rfl dX6_keyword_62 ?_
          obtain ⟨v16, e15, hF⟩ := ob_s hF
          refine m_callV (As := [.ref (V (2 + 8))]) (rest := []) X hp (w_X6_is hVs e15) q643 q645 qs10 q148 q646 1 rfl ds_X6_is ⟨Nat.le_of_ble_eq_true rfl, Nat.le_of_ble_eq_true rfl⟩ 7 (T := TX6) (N := 10) rfl (by decide) (rI_s e2).1 hl.1 rfl (Nat.le_of_ble_eq_true rfl) dX6_keyword_64 ⟨Nat.le_refl 0, Nat.le_refl 0⟩ (fun H locs hp => ?_)
          refine lv_if_eq (tgt := 75) hx hb dX6_keyword_67 (by decide) (fun c17 => ?_) (fun c17 => ?_)
          · have hF := if_p c17 hF
            refine lv_aload_n hx hb dX6_keyword_75 rfl (lv_at hl 0 rfl) ?_
            refine m_ldcS 28 X hVs (by decide) rfl dX6_keyword_76 ?_
            obtain ⟨v19, e18, hF⟩ := ob_s hF
            refine m_callV (As := [.ref (V (2 + 28))]) (rest := []) X hp (w_X6_is hVs e18) q643 q645 qs10 q148 q646 1 rfl ds_X6_is ⟨Nat.le_of_ble_eq_true rfl, Nat.le_of_ble_eq_true rfl⟩ 7 (T := TX6) (N := 10) rfl (by decide) (rI_s e2).1 hl.1 rfl (Nat.le_of_ble_eq_true rfl) dX6_keyword_78 ⟨Nat.le_refl 0, Nat.le_refl 0⟩ (fun H locs hp => ?_)
            refine lv_if_eq (tgt := 89) hx hb dX6_keyword_81 (by decide) (fun c20 => ?_) (fun c20 => ?_)
            · have hF := if_p c20 hF
              refine lv_iconst (v := 1) hx hb dX6_keyword_89 (by decide) ?_
              cases hF
              exact m_iret X hp dX6_keyword_90
            · have hF := if_n c20 hF
              refine lv_bipush (v := 23) hx hb dX6_keyword_84 (by decide) ?_
              refine lv_goto (tgt := 90) hx hb dX6_keyword_86 (by decide) ?_
              cases hF
              exact m_iret X hp dX6_keyword_90
          · have hF := if_n c17 hF
            refine lv_bipush (v := 22) hx hb dX6_keyword_70 (by decide) ?_
            refine lv_goto (tgt := 90) hx hb dX6_keyword_72 (by decide) ?_
            cases hF
            exact m_iret X hp dX6_keyword_90
        · have hF := if_n c14 hF
          refine lv_bipush (v := 21) hx hb dX6_keyword_56 (by decide) ?_
          refine lv_goto (tgt := 90) hx hb dX6_keyword_58 (by decide) ?_
          cases hF
          exact m_iret X hp dX6_keyword_90
end
section
variable {l : Launch} {D : va_G} {n0 : Nat} {P : mP} {S : mSh} {M : mMm} {n : Nat} {p : Program} {e : Env} {s : State} {m : MethodId} {args : Array Value} {below : List Frame} {meth : Method} {c : Code}
abbrev Rm_X6_isDigit : Room := { frames := 1, cells := 0, slots := 0, locals := 22 }
def f_X6_isDigit (S : mSh) (M : mMm) (x0 : Nat) : Option Int32 := gd ((S x0).1 = 7) (ob (f_X6_see S M x0) fun v3 => ob (f_X0_isIn v3 (48 : Int32) (57 : Int32)) fun v5 => gd (v5 &&& 1 = v5) (some v5))
theorem w_X6_isDigit {x0 : Nat} {r : Int32} (hF : f_X6_isDigit S M x0 = some r) : mCt l D n0 P yX6_isDigit cX6_isDigit 1 (some .boolean) 1 22 0 0 [.ref x0] S M n (some (.int r)) S M n := by
  refine m_ofW (by decide) (Nat.le_of_ble_eq_true rfl) (fun p e s m below meth c X hnm hp ls hl => ?_)
  have hx := X.1.1
  have hb := X.1.2.1
  have hown := X.1.2.2.2.1
  have hts := X.1.2.2.2.2
  have hl : lv_has ls 1 [(0, .ref x0)] := hl
  unfold f_X6_isDigit at hF
  refine lv_aload_n hx hb dX6_isDigit_0 rfl (lv_at hl 0 rfl) ?_
  obtain ⟨g1, hF⟩ := gd_s hF
  obtain ⟨v3, e2, hF⟩ := ob_s hF
  refine m_callV (As := []) (rest := []) X hp (w_X6_see e2) q625 q627 qs6 q148 q628 0 rfl ds_X6_see ⟨Nat.le_of_ble_eq_true rfl, Nat.le_of_ble_eq_true rfl⟩ 7 (T := TX6) (N := 10) rfl (by decide) g1 hl.1 rfl (Nat.le_of_ble_eq_true rfl) dX6_isDigit_1 ⟨Nat.le_refl 0, Nat.le_refl 0⟩ (fun H locs hp => ?_)
  refine lv_bipush (v := 48) hx hb dX6_isDigit_4 (by decide) ?_
  refine lv_bipush (v := 57) hx hb dX6_isDigit_6 (by decide) ?_
  obtain ⟨v5, e4, hF⟩ := ob_s hF
  refine m_callSN (As := [.int v3, .int (48 : Int32), .int (57 : Int32)]) (rest := []) X hp (w_X0_isIn e4) q633 q566 q132 q567 3 rfl ds_X0_isIn ⟨Nat.le_of_ble_eq_true rfl, Nat.le_of_ble_eq_true rfl⟩ hl.1 rfl (Nat.le_of_ble_eq_true rfl) dX6_isDigit_8 ⟨Nat.le_refl 0, Nat.le_refl 0⟩ (fun H locs hp => ?_)
  obtain ⟨g6, hF⟩ := gd_s hF
  cases hF
  exact m_zret X hp ((bz_iff _).mpr g6) dX6_isDigit_11
end
section
variable {l : Launch} {D : va_G} {n0 : Nat} {P : mP} {S : mSh} {M : mMm} {n : Nat} {p : Program} {e : Env} {s : State} {m : MethodId} {args : Array Value} {below : List Frame} {meth : Method} {c : Code}
abbrev Rm_X6_isMark : Room := { frames := 0, cells := 0, slots := 0, locals := 0 }
def f_X6_isMark (x0 : Nat) (x1 : Int32) : Option Int32 := (if x1 = (59 : Int32) then some (1 : Int32) else (if x1 = (43 : Int32) then some (1 : Int32) else (if x1 = (45 : Int32) then some (1 : Int32) else (if x1 = (42 : Int32) then some (1 : Int32) else (if x1 = (47 : Int32) then some (1 : Int32) else (if x1 = (40 : Int32) then some (1 : Int32) else (if x1 = (41 : Int32) then some (1 : Int32) else (if x1 = (60 : Int32) then some (1 : Int32) else (if x1 = (61 : Int32) then some (1 : Int32) else (if x1 = (62 : Int32) then some (1 : Int32) else some (0 : Int32)))))))))))
theorem w_X6_isMark {x0 : Nat} {x1 : Int32} {r : Int32} (hF : f_X6_isMark x0 x1 = some r) : mCt l D n0 P yX6_isMark cX6_isMark 2 (some .boolean) 0 0 0 0 [.ref x0, .int x1] S M n (some (.int r)) S M n := by
  refine m_ofW (by decide) (Nat.le_of_ble_eq_true rfl) (fun p e s m below meth c X hnm hp ls hl => ?_)
  have hx := X.1.1
  have hb := X.1.2.1
  have hown := X.1.2.2.2.1
  have hts := X.1.2.2.2.2
  have hl : lv_has ls 2 [(0, .ref x0), (1, .int x1)] := hl
  unfold f_X6_isMark at hF
  refine lv_iload_n hx hb dX6_isMark_0 rfl (lv_at hl 1 rfl) ?_
  refine lv_bipush (v := 59) hx hb dX6_isMark_1 (by decide) ?_
  refine lv_icmp_eq (tgt := 60) hx hb dX6_isMark_3 (by decide) (fun c1 => ?_) (fun c1 => ?_)
  · have hF := if_p c1 hF
    refine lv_iconst (v := 1) hx hb dX6_isMark_60 (by decide) ?_
    refine lv_goto (tgt := 65) hx hb dX6_isMark_61 (by decide) ?_
    cases hF
    exact m_zret X hp rfl dX6_isMark_65
  · have hF := if_n c1 hF
    refine lv_iload_n hx hb dX6_isMark_6 rfl (lv_at hl 1 rfl) ?_
    refine lv_bipush (v := 43) hx hb dX6_isMark_7 (by decide) ?_
    refine lv_icmp_eq (tgt := 60) hx hb dX6_isMark_9 (by decide) (fun c2 => ?_) (fun c2 => ?_)
    · have hF := if_p c2 hF
      refine lv_iconst (v := 1) hx hb dX6_isMark_60 (by decide) ?_
      refine lv_goto (tgt := 65) hx hb dX6_isMark_61 (by decide) ?_
      cases hF
      exact m_zret X hp rfl dX6_isMark_65
    · have hF := if_n c2 hF
      refine lv_iload_n hx hb dX6_isMark_12 rfl (lv_at hl 1 rfl) ?_
      refine lv_bipush (v := 45) hx hb dX6_isMark_13 (by decide) ?_
      refine lv_icmp_eq (tgt := 60) hx hb dX6_isMark_15 (by decide) (fun c3 => ?_) (fun c3 => ?_)
      · have hF := if_p c3 hF
        refine lv_iconst (v := 1) hx hb dX6_isMark_60 (by decide) ?_
        refine lv_goto (tgt := 65) hx hb dX6_isMark_61 (by decide) ?_
        cases hF
        exact m_zret X hp rfl dX6_isMark_65
      · have hF := if_n c3 hF
        refine lv_iload_n hx hb dX6_isMark_18 rfl (lv_at hl 1 rfl) ?_
        refine lv_bipush (v := 42) hx hb dX6_isMark_19 (by decide) ?_
        refine lv_icmp_eq (tgt := 60) hx hb dX6_isMark_21 (by decide) (fun c4 => ?_) (fun c4 => ?_)
        · have hF := if_p c4 hF
          refine lv_iconst (v := 1) hx hb dX6_isMark_60 (by decide) ?_
          refine lv_goto (tgt := 65) hx hb dX6_isMark_61 (by decide) ?_
          cases hF
          exact m_zret X hp rfl dX6_isMark_65
        · have hF := if_n c4 hF
          refine lv_iload_n hx hb dX6_isMark_24 rfl (lv_at hl 1 rfl) ?_
          refine lv_bipush (v := 47) hx hb dX6_isMark_25 (by decide) ?_
          refine lv_icmp_eq (tgt := 60) hx hb dX6_isMark_27 (by decide) (fun c5 => ?_) (fun c5 => ?_)
          · have hF := if_p c5 hF
            refine lv_iconst (v := 1) hx hb dX6_isMark_60 (by decide) ?_
            refine lv_goto (tgt := 65) hx hb dX6_isMark_61 (by decide) ?_
            cases hF
            exact m_zret X hp rfl dX6_isMark_65
          · have hF := if_n c5 hF
            refine lv_iload_n hx hb dX6_isMark_30 rfl (lv_at hl 1 rfl) ?_
            refine lv_bipush (v := 40) hx hb dX6_isMark_31 (by decide) ?_
            refine lv_icmp_eq (tgt := 60) hx hb dX6_isMark_33 (by decide) (fun c6 => ?_) (fun c6 => ?_)
            · have hF := if_p c6 hF
              refine lv_iconst (v := 1) hx hb dX6_isMark_60 (by decide) ?_
              refine lv_goto (tgt := 65) hx hb dX6_isMark_61 (by decide) ?_
              cases hF
              exact m_zret X hp rfl dX6_isMark_65
            · have hF := if_n c6 hF
              refine lv_iload_n hx hb dX6_isMark_36 rfl (lv_at hl 1 rfl) ?_
              refine lv_bipush (v := 41) hx hb dX6_isMark_37 (by decide) ?_
              refine lv_icmp_eq (tgt := 60) hx hb dX6_isMark_39 (by decide) (fun c7 => ?_) (fun c7 => ?_)
              · have hF := if_p c7 hF
                refine lv_iconst (v := 1) hx hb dX6_isMark_60 (by decide) ?_
                refine lv_goto (tgt := 65) hx hb dX6_isMark_61 (by decide) ?_
                cases hF
                exact m_zret X hp rfl dX6_isMark_65
              · have hF := if_n c7 hF
                refine lv_iload_n hx hb dX6_isMark_42 rfl (lv_at hl 1 rfl) ?_
                refine lv_bipush (v := 60) hx hb dX6_isMark_43 (by decide) ?_
                refine lv_icmp_eq (tgt := 60) hx hb dX6_isMark_45 (by decide) (fun c8 => ?_) (fun c8 => ?_)
                · have hF := if_p c8 hF
                  refine lv_iconst (v := 1) hx hb dX6_isMark_60 (by decide) ?_
                  refine lv_goto (tgt := 65) hx hb dX6_isMark_61 (by decide) ?_
                  cases hF
                  exact m_zret X hp rfl dX6_isMark_65
                · have hF := if_n c8 hF
                  refine lv_iload_n hx hb dX6_isMark_48 rfl (lv_at hl 1 rfl) ?_
                  refine lv_bipush (v := 61) hx hb dX6_isMark_49 (by decide) ?_
                  refine lv_icmp_eq (tgt := 60) hx hb dX6_isMark_51 (by decide) (fun c9 => ?_) (fun c9 => ?_)
                  · have hF := if_p c9 hF
                    refine lv_iconst (v := 1) hx hb dX6_isMark_60 (by decide) ?_
                    refine lv_goto (tgt := 65) hx hb dX6_isMark_61 (by decide) ?_
                    cases hF
                    exact m_zret X hp rfl dX6_isMark_65
                  · have hF := if_n c9 hF
                    refine lv_iload_n hx hb dX6_isMark_54 rfl (lv_at hl 1 rfl) ?_
                    refine lv_bipush (v := 62) hx hb dX6_isMark_55 (by decide) ?_
                    refine lv_icmp_ne (tgt := 64) hx hb dX6_isMark_57 (by decide) (fun c10 => ?_) (fun c10 => ?_)
                    · have hF := if_n c10 hF
                      refine lv_iconst (v := 0) hx hb dX6_isMark_64 (by decide) ?_
                      cases hF
                      exact m_zret X hp rfl dX6_isMark_65
                    · have hF := if_p c10 hF
                      refine lv_iconst (v := 1) hx hb dX6_isMark_60 (by decide) ?_
                      refine lv_goto (tgt := 65) hx hb dX6_isMark_61 (by decide) ?_
                      cases hF
                      exact m_zret X hp rfl dX6_isMark_65
end
section
variable {l : Launch} {D : va_G} {n0 : Nat} {P : mP} {V : Nat → Nat} {S : mSh} {M : mMm} {n : Nat} {p : Program} {e : Env} {s : State} {m : MethodId} {args : Array Value} {below : List Frame} {meth : Method} {c : Code}
abbrev Rm_X6_next : Room := { frames := 8, cells := 0, slots := 0, locals := 224 }
def fb_X6_next_18 (V : Nat → Nat) (S : mSh) (k0 : mMm → Nat → Option mMm) (M : mMm) (x0 : Nat) : Option mMm := ob (rI S M x0 7 3) fun v76 => ob (wF S M x0 7 3 (.int (v76 + (1 : Int32)))) fun M78 => (k0 M78 x0)
theorem b_X6_next_18 {M' : mMm} (hVs : mVs V n0 P) (X : mCx D n0 P p m c cX6_next 1 s args yX6_next.cls meth none) (k0 : mMm → Nat → Option mMm) (hk0 : ∀ (M : mMm) (x0 : Nat) (H : Heap) (locs : List Loc) (ls : Array Slot), mHp D n0 S M n s H locs → lv_has ls 1 [(0, .ref x0)] → k0 M x0 = some M' → W p l e Rm_X6_next s m args below meth c H locs 0 0 (MQ below (mQ D n0 none S M' n) args s 0 0 (mA n0)) (F0 m 0 ls [])) : ∀ (M : mMm) (x0 : Nat) (H : Heap) (locs : List Loc) (ls : Array Slot), mHp D n0 S M n s H locs → lv_has ls 1 [(0, .ref x0)] → fb_X6_next_18 V S k0 M x0 = some M' → W p l e Rm_X6_next s m args below meth c H locs 0 0 (MQ below (mQ D n0 none S M' n) args s 0 0 (mA n0)) (F0 m 18 ls []) := by
  have hx := X.1.1
  have hb := X.1.2.1
  have hown := X.1.2.2.2.1
  have hts := X.1.2.2.2.2
  intro M x0 H locs ls hp hl hF
  unfold fb_X6_next_18 at hF
  refine lv_aload_n hx hb dX6_next_18 rfl (lv_at hl 0 rfl) ?_
  refine lv_dup hx hb dX6_next_19 rfl ?_
  obtain ⟨v76, e77, hF⟩ := ob_s hF
  refine m_getI X hp e77 kX6 (Nat.le_of_ble_eq_true rfl) q588 dX6_next_20 ?_
  refine lv_iconst (v := 1) hx hb dX6_next_23 (by decide) ?_
  refine lv_iadd hx hb dX6_next_24 ?_
  obtain ⟨M78, e79, hF⟩ := ob_s hF
  refine m_putW X hp e79 kX6 (Nat.le_of_ble_eq_true rfl) q588 rfl rfl rfl dX6_next_25 (fun H locs hp => ?_)
  refine lv_goto (tgt := 0) hx hb dX6_next_28 (by decide) ?_
  exact hk0 _ _ _ _ _ hp (lv_sub hl [0] rfl) hF
def fb_X6_next_62 (V : Nat → Nat) (S : mSh) : Nat → mMm → Nat → Option mMm
  | 0, _, _ => none
  | t + 1, M, x0 => gd ((S x0).1 = 7) (ob (f_X6_isLetter S M x0) fun v34 => (if v34 = 0 then ob (f_X6_keyword V S M x0) fun v37 => ob (wF S M x0 7 5 (.int v37)) fun M38 => some M38 else ob (rI S M x0 7 3) fun v40 => ob (wF S M x0 7 3 (.int (v40 + (1 : Int32)))) fun M42 => (fb_X6_next_62 V S t M42 x0)))
theorem b_X6_next_62 {M' : mMm} (hVs : mVs V n0 P) (X : mCx D n0 P p m c cX6_next 1 s args yX6_next.cls meth none) : ∀ t : Nat, ∀ (M : mMm) (x0 : Nat) (H : Heap) (locs : List Loc) (ls : Array Slot), mHp D n0 S M n s H locs → lv_has ls 1 [(0, .ref x0)] → fb_X6_next_62 V S t M x0 = some M' → W p l e Rm_X6_next s m args below meth c H locs 0 0 (MQ below (mQ D n0 none S M' n) args s 0 0 (mA n0)) (F0 m 62 ls []) := by
  have hx := X.1.1
  have hb := X.1.2.1
  have hown := X.1.2.2.2.1
  have hts := X.1.2.2.2.2
  intro t
  induction t with
  | zero =>
    intro M x0 H locs ls hp hl hF
    have hF : none = some M' := hF
    cases hF
  | succ t ih =>
    intro M x0 H locs ls hp hl hF
    rw [fb_X6_next_62] at hF
    refine lv_aload_n hx hb dX6_next_62 rfl (lv_at hl 0 rfl) ?_
    obtain ⟨g32, hF⟩ := gd_s hF
    obtain ⟨v34, e33, hF⟩ := ob_s hF
    refine m_callV (As := []) (rest := []) X hp (w_X6_isLetter e33) q629 q631 qs7 q148 q632 0 rfl ds_X6_isLetter ⟨Nat.le_of_ble_eq_true rfl, Nat.le_of_ble_eq_true rfl⟩ 7 (T := TX6) (N := 10) rfl (by decide) g32 hl.1 rfl (Nat.le_of_ble_eq_true rfl) dX6_next_63 ⟨Nat.le_refl 0, Nat.le_refl 0⟩ (fun H locs hp => ?_)
    refine lv_if_eq (tgt := 82) hx hb dX6_next_66 (by decide) (fun c35 => ?_) (fun c35 => ?_)
    · have hF := if_p c35 hF
      refine lv_aload_n hx hb dX6_next_82 rfl (lv_at hl 0 rfl) ?_
      refine lv_aload_n hx hb dX6_next_83 rfl (lv_at hl 0 rfl) ?_
      obtain ⟨v37, e36, hF⟩ := ob_s hF
      refine m_callV (As := []) (rest := [.ref x0]) X hp (w_X6_keyword hVs e36) q634 q636 qs8 q148 q637 0 rfl ds_X6_keyword ⟨Nat.le_of_ble_eq_true rfl, Nat.le_of_ble_eq_true rfl⟩ 7 (T := TX6) (N := 10) rfl (by decide) g32 hl.1 rfl (Nat.le_of_ble_eq_true rfl) dX6_next_84 ⟨Nat.le_refl 0, Nat.le_refl 0⟩ (fun H locs hp => ?_)
      obtain ⟨M38, e39, hF⟩ := ob_s hF
      refine m_putW X hp e39 kX6 (Nat.le_of_ble_eq_true rfl) q590 rfl rfl rfl dX6_next_87 (fun H locs hp => ?_)
      refine lv_goto (tgt := 215) hx hb dX6_next_90 (by decide) ?_
      cases hF
      exact m_vret X hp dX6_next_215
    · have hF := if_n c35 hF
      refine lv_aload_n hx hb dX6_next_69 rfl (lv_at hl 0 rfl) ?_
      refine lv_dup hx hb dX6_next_70 rfl ?_
      obtain ⟨v40, e41, hF⟩ := ob_s hF
      refine m_getI X hp e41 kX6 (Nat.le_of_ble_eq_true rfl) q588 dX6_next_71 ?_
      refine lv_iconst (v := 1) hx hb dX6_next_74 (by decide) ?_
      refine lv_iadd hx hb dX6_next_75 ?_
      obtain ⟨M42, e43, hF⟩ := ob_s hF
      refine m_putW X hp e43 kX6 (Nat.le_of_ble_eq_true rfl) q588 rfl rfl rfl dX6_next_76 (fun H locs hp => ?_)
      refine lv_goto (tgt := 62) hx hb dX6_next_79 (by decide) ?_
      exact ih _ _ _ _ _ hp (lv_sub hl [0] rfl) hF
def fb_X6_next_144 (V : Nat → Nat) (S : mSh) (k105 : mMm → Nat → Option mMm) (M : mMm) (x0 : Nat) : Option mMm := ob (rI S M x0 7 3) fun v64 => ob (wF S M x0 7 3 (.int (v64 + (1 : Int32)))) fun M66 => (k105 M66 x0)
theorem b_X6_next_144 {M' : mMm} (hVs : mVs V n0 P) (X : mCx D n0 P p m c cX6_next 1 s args yX6_next.cls meth none) (k105 : mMm → Nat → Option mMm) (hk105 : ∀ (M : mMm) (x0 : Nat) (H : Heap) (locs : List Loc) (ls : Array Slot), mHp D n0 S M n s H locs → lv_has ls 1 [(0, .ref x0)] → k105 M x0 = some M' → W p l e Rm_X6_next s m args below meth c H locs 0 0 (MQ below (mQ D n0 none S M' n) args s 0 0 (mA n0)) (F0 m 105 ls [])) : ∀ (M : mMm) (x0 : Nat) (H : Heap) (locs : List Loc) (ls : Array Slot), mHp D n0 S M n s H locs → lv_has ls 1 [(0, .ref x0)] → fb_X6_next_144 V S k105 M x0 = some M' → W p l e Rm_X6_next s m args below meth c H locs 0 0 (MQ below (mQ D n0 none S M' n) args s 0 0 (mA n0)) (F0 m 144 ls []) := by
  have hx := X.1.1
  have hb := X.1.2.1
  have hown := X.1.2.2.2.1
  have hts := X.1.2.2.2.2
  intro M x0 H locs ls hp hl hF
  unfold fb_X6_next_144 at hF
  refine lv_aload_n hx hb dX6_next_144 rfl (lv_at hl 0 rfl) ?_
  refine lv_dup hx hb dX6_next_145 rfl ?_
  obtain ⟨v64, e65, hF⟩ := ob_s hF
  refine m_getI X hp e65 kX6 (Nat.le_of_ble_eq_true rfl) q588 dX6_next_146 ?_
  refine lv_iconst (v := 1) hx hb dX6_next_149 (by decide) ?_
  refine lv_iadd hx hb dX6_next_150 ?_
  obtain ⟨M66, e67, hF⟩ := ob_s hF
  refine m_putW X hp e67 kX6 (Nat.le_of_ble_eq_true rfl) q588 rfl rfl rfl dX6_next_151 (fun H locs hp => ?_)
  refine lv_goto (tgt := 105) hx hb dX6_next_154 (by decide) ?_
  exact hk105 _ _ _ _ _ hp (lv_sub hl [0] rfl) hF
def fb_X6_next_176 (V : Nat → Nat) (S : mSh) (M : mMm) (y0 : Int32) (y1 : Nat) : Option mMm := ob (wF S M y1 7 5 (.int y0)) fun M68 => some M68
theorem b_X6_next_176 {M' : mMm} (hVs : mVs V n0 P) (X : mCx D n0 P p m c cX6_next 1 s args yX6_next.cls meth none) : ∀ (M : mMm) (y0 : Int32) (y1 : Nat) (H : Heap) (locs : List Loc) (ls : Array Slot), mHp D n0 S M n s H locs → lv_has ls 1 [] → fb_X6_next_176 V S M y0 y1 = some M' → W p l e Rm_X6_next s m args below meth c H locs 0 0 (MQ below (mQ D n0 none S M' n) args s 0 0 (mA n0)) (F0 m 176 ls [.int y0, .ref y1]) := by
  have hx := X.1.1
  have hb := X.1.2.1
  have hown := X.1.2.2.2.1
  have hts := X.1.2.2.2.2
  intro M y0 y1 H locs ls hp hl hF
  unfold fb_X6_next_176 at hF
  obtain ⟨M68, e69, hF⟩ := ob_s hF
  refine m_putW X hp e69 kX6 (Nat.le_of_ble_eq_true rfl) q590 rfl rfl rfl dX6_next_176 (fun H locs hp => ?_)
  refine lv_goto (tgt := 215) hx hb dX6_next_179 (by decide) ?_
  cases hF
  exact m_vret X hp dX6_next_215
def fb_X6_next_105 (V : Nat → Nat) (S : mSh) : Nat → mMm → Nat → Option mMm
  | 0, _, _ => none
  | t + 1, M, x0 => gd ((S x0).1 = 7) (ob (f_X6_isDigit S M x0) fun v46 => (if v46 = 0 then ob (rI S M x0 7 3) fun v48 => ob (rI S M x0 7 4) fun v50 => (if (5 : Int32) ≤ (v48 - v50) then (fb_X6_next_176 V S M  (1 : Int32) x0) else (fb_X6_next_176 V S M  (2 : Int32) x0)) else ob (rI S M x0 7 3) fun v53 => ob (rI S M x0 7 4) fun v55 => (if (v55 + (4 : Int32)) ≤ v53 then (fb_X6_next_144 V S (fb_X6_next_105 V S t) M x0) else ob (rI S M x0 7 6) fun v58 => ob (f_X6_see S M x0) fun v61 => ob (wF S M x0 7 6 (.int ((((10 : Int32) * v58) + v61) - (48 : Int32)))) fun M62 => (fb_X6_next_144 V S (fb_X6_next_105 V S t) M62 x0))))
theorem b_X6_next_105 {M' : mMm} (hVs : mVs V n0 P) (X : mCx D n0 P p m c cX6_next 1 s args yX6_next.cls meth none) : ∀ t : Nat, ∀ (M : mMm) (x0 : Nat) (H : Heap) (locs : List Loc) (ls : Array Slot), mHp D n0 S M n s H locs → lv_has ls 1 [(0, .ref x0)] → fb_X6_next_105 V S t M x0 = some M' → W p l e Rm_X6_next s m args below meth c H locs 0 0 (MQ below (mQ D n0 none S M' n) args s 0 0 (mA n0)) (F0 m 105 ls []) := by
  have hx := X.1.1
  have hb := X.1.2.1
  have hown := X.1.2.2.2.1
  have hts := X.1.2.2.2.2
  intro t
  induction t with
  | zero =>
    intro M x0 H locs ls hp hl hF
    have hF : none = some M' := hF
    cases hF
  | succ t ih =>
    intro M x0 H locs ls hp hl hF
    rw [fb_X6_next_105] at hF
    refine lv_aload_n hx hb dX6_next_105 rfl (lv_at hl 0 rfl) ?_
    obtain ⟨g44, hF⟩ := gd_s hF
    obtain ⟨v46, e45, hF⟩ := ob_s hF
    refine m_callV (As := []) (rest := []) X hp (w_X6_isDigit e45) q735 q737 qs14 q148 q738 0 rfl ds_X6_isDigit ⟨Nat.le_of_ble_eq_true rfl, Nat.le_of_ble_eq_true rfl⟩ 7 (T := TX6) (N := 10) rfl (by decide) g44 hl.1 rfl (Nat.le_of_ble_eq_true rfl) dX6_next_106 ⟨Nat.le_refl 0, Nat.le_refl 0⟩ (fun H locs hp => ?_)
    refine lv_if_eq (tgt := 157) hx hb dX6_next_109 (by decide) (fun c47 => ?_) (fun c47 => ?_)
    · have hF := if_p c47 hF
      refine lv_aload_n hx hb dX6_next_157 rfl (lv_at hl 0 rfl) ?_
      refine lv_aload_n hx hb dX6_next_158 rfl (lv_at hl 0 rfl) ?_
      obtain ⟨v48, e49, hF⟩ := ob_s hF
      refine m_getI X hp e49 kX6 (Nat.le_of_ble_eq_true rfl) q588 dX6_next_159 ?_
      refine lv_aload_n hx hb dX6_next_162 rfl (lv_at hl 0 rfl) ?_
      obtain ⟨v50, e51, hF⟩ := ob_s hF
      refine m_getI X hp e51 kX6 (Nat.le_of_ble_eq_true rfl) q589 dX6_next_163 ?_
      refine lv_isub hx hb dX6_next_166 ?_
      refine lv_iconst (v := 5) hx hb dX6_next_167 (by decide) ?_
      refine lv_icmp_ge (tgt := 175) hx hb dX6_next_168 (by decide) (fun c52 => ?_) (fun c52 => ?_)
      · have hF := if_p c52 hF
        refine lv_iconst (v := 1) hx hb dX6_next_175 (by decide) ?_
        exact b_X6_next_176 hVs X _  _ _ _ _ _ hp (lv_sub hl [] rfl) hF
      · have hF := if_n c52 hF
        refine lv_iconst (v := 2) hx hb dX6_next_171 (by decide) ?_
        refine lv_goto (tgt := 176) hx hb dX6_next_172 (by decide) ?_
        exact b_X6_next_176 hVs X _  _ _ _ _ _ hp (lv_sub hl [] rfl) hF
    · have hF := if_n c47 hF
      refine lv_aload_n hx hb dX6_next_112 rfl (lv_at hl 0 rfl) ?_
      obtain ⟨v53, e54, hF⟩ := ob_s hF
      refine m_getI X hp e54 kX6 (Nat.le_of_ble_eq_true rfl) q588 dX6_next_113 ?_
      refine lv_aload_n hx hb dX6_next_116 rfl (lv_at hl 0 rfl) ?_
      obtain ⟨v55, e56, hF⟩ := ob_s hF
      refine m_getI X hp e56 kX6 (Nat.le_of_ble_eq_true rfl) q589 dX6_next_117 ?_
      refine lv_iconst (v := 4) hx hb dX6_next_120 (by decide) ?_
      refine lv_iadd hx hb dX6_next_121 ?_
      refine lv_icmp_ge (tgt := 144) hx hb dX6_next_122 (by decide) (fun c57 => ?_) (fun c57 => ?_)
      · have hF := if_p c57 hF
        exact b_X6_next_144 hVs X _ ih _ _ _ _ _ hp (lv_sub hl [0] rfl) hF
      · have hF := if_n c57 hF
        refine lv_aload_n hx hb dX6_next_125 rfl (lv_at hl 0 rfl) ?_
        refine lv_bipush (v := 10) hx hb dX6_next_126 (by decide) ?_
        refine lv_aload_n hx hb dX6_next_128 rfl (lv_at hl 0 rfl) ?_
        obtain ⟨v58, e59, hF⟩ := ob_s hF
        refine m_getI X hp e59 kX6 (Nat.le_of_ble_eq_true rfl) q591 dX6_next_129 ?_
        refine lv_imul hx hb dX6_next_132 ?_
        refine lv_aload_n hx hb dX6_next_133 rfl (lv_at hl 0 rfl) ?_
        obtain ⟨v61, e60, hF⟩ := ob_s hF
        refine m_callV (As := []) (rest := [.int ((10 : Int32) * v58), .ref x0]) X hp (w_X6_see e60) q625 q627 qs6 q148 q628 0 rfl ds_X6_see ⟨Nat.le_of_ble_eq_true rfl, Nat.le_of_ble_eq_true rfl⟩ 7 (T := TX6) (N := 10) rfl (by decide) (rI_s e59).1 hl.1 rfl (Nat.le_of_ble_eq_true rfl) dX6_next_134 ⟨Nat.le_refl 0, Nat.le_refl 0⟩ (fun H locs hp => ?_)
        refine lv_iadd hx hb dX6_next_137 ?_
        refine lv_bipush (v := 48) hx hb dX6_next_138 (by decide) ?_
        refine lv_isub hx hb dX6_next_140 ?_
        obtain ⟨M62, e63, hF⟩ := ob_s hF
        refine m_putW X hp e63 kX6 (Nat.le_of_ble_eq_true rfl) q591 rfl rfl rfl dX6_next_141 (fun H locs hp => ?_)
        exact b_X6_next_144 hVs X _ ih _ _ _ _ _ hp (lv_sub hl [0] rfl) hF
def fb_X6_next_202 (V : Nat → Nat) (S : mSh) (M : mMm) (x0 : Nat) (y0 : Int32) (y1 : Nat) : Option mMm := ob (wF S M y1 7 5 (.int y0)) fun M70 => ob (rI S M70 x0 7 3) fun v72 => ob (wF S M70 x0 7 3 (.int (v72 + (1 : Int32)))) fun M74 => some M74
theorem b_X6_next_202 {M' : mMm} (hVs : mVs V n0 P) (X : mCx D n0 P p m c cX6_next 1 s args yX6_next.cls meth none) : ∀ (M : mMm) (x0 : Nat) (y0 : Int32) (y1 : Nat) (H : Heap) (locs : List Loc) (ls : Array Slot), mHp D n0 S M n s H locs → lv_has ls 1 [(0, .ref x0)] → fb_X6_next_202 V S M x0 y0 y1 = some M' → W p l e Rm_X6_next s m args below meth c H locs 0 0 (MQ below (mQ D n0 none S M' n) args s 0 0 (mA n0)) (F0 m 202 ls [.int y0, .ref y1]) := by
  have hx := X.1.1
  have hb := X.1.2.1
  have hown := X.1.2.2.2.1
  have hts := X.1.2.2.2.2
  intro M x0 y0 y1 H locs ls hp hl hF
  unfold fb_X6_next_202 at hF
  obtain ⟨M70, e71, hF⟩ := ob_s hF
  refine m_putW X hp e71 kX6 (Nat.le_of_ble_eq_true rfl) q590 rfl rfl rfl dX6_next_202 (fun H locs hp => ?_)
  refine lv_aload_n hx hb dX6_next_205 rfl (lv_at hl 0 rfl) ?_
  refine lv_dup hx hb dX6_next_206 rfl ?_
  obtain ⟨v72, e73, hF⟩ := ob_s hF
  refine m_getI X hp e73 kX6 (Nat.le_of_ble_eq_true rfl) q588 dX6_next_207 ?_
  refine lv_iconst (v := 1) hx hb dX6_next_210 (by decide) ?_
  refine lv_iadd hx hb dX6_next_211 ?_
  obtain ⟨M74, e75, hF⟩ := ob_s hF
  refine m_putW X hp e75 kX6 (Nat.le_of_ble_eq_true rfl) q588 rfl rfl rfl dX6_next_212 (fun H locs hp => ?_)
  cases hF
  exact m_vret X hp dX6_next_215
def fb_X6_next_0 (V : Nat → Nat) (S : mSh) : Nat → mMm → Nat → Option mMm
  | 0, _, _ => none
  | t + 1, M, x0 => gd ((S x0).1 = 7) (ob (f_X6_see S M x0) fun v3 => (if v3 = (32 : Int32) then (fb_X6_next_18 V S (fb_X6_next_0 V S t) M x0) else ob (f_X6_see S M x0) fun v6 => (if v6 = (10 : Int32) then (fb_X6_next_18 V S (fb_X6_next_0 V S t) M x0) else ob (rI S M x0 7 3) fun v8 => ob (wF S M x0 7 4 (.int v8)) fun M10 => ob (f_X6_see S M10 x0) fun v13 => (if v13 = (-1 : Int32) then ob (wF S M10 x0 7 5 (.int (0 : Int32))) fun M30 => some M30 else ob (f_X6_isLetter S M10 x0) fun v16 => (if v16 = 0 then ob (f_X6_isDigit S M10 x0) fun v19 => (if v19 = 0 then ob (f_X6_see S M10 x0) fun v22 => ob (f_X6_isMark x0 v22) fun v24 => (if v24 = 0 then (fb_X6_next_202 V S M10 x0 (1 : Int32) x0) else ob (f_X6_see S M10 x0) fun v27 => (fb_X6_next_202 V S M10 x0 v27 x0)) else ob (wF S M10 x0 7 6 (.int (0 : Int32))) fun M28 => (fb_X6_next_105 V S FU M28 x0)) else (fb_X6_next_62 V S FU M10 x0))))))
theorem b_X6_next_0 {M' : mMm} (hVs : mVs V n0 P) (X : mCx D n0 P p m c cX6_next 1 s args yX6_next.cls meth none) : ∀ t : Nat, ∀ (M : mMm) (x0 : Nat) (H : Heap) (locs : List Loc) (ls : Array Slot), mHp D n0 S M n s H locs → lv_has ls 1 [(0, .ref x0)] → fb_X6_next_0 V S t M x0 = some M' → W p l e Rm_X6_next s m args below meth c H locs 0 0 (MQ below (mQ D n0 none S M' n) args s 0 0 (mA n0)) (F0 m 0 ls []) := by
  have hx := X.1.1
  have hb := X.1.2.1
  have hown := X.1.2.2.2.1
  have hts := X.1.2.2.2.2
  intro t
  induction t with
  | zero =>
    intro M x0 H locs ls hp hl hF
    have hF : none = some M' := hF
    cases hF
  | succ t ih =>
    intro M x0 H locs ls hp hl hF
    rw [fb_X6_next_0] at hF
    refine lv_aload_n hx hb dX6_next_0 rfl (lv_at hl 0 rfl) ?_
    obtain ⟨g1, hF⟩ := gd_s hF
    obtain ⟨v3, e2, hF⟩ := ob_s hF
    refine m_callV (As := []) (rest := []) X hp (w_X6_see e2) q625 q627 qs6 q148 q628 0 rfl ds_X6_see ⟨Nat.le_of_ble_eq_true rfl, Nat.le_of_ble_eq_true rfl⟩ 7 (T := TX6) (N := 10) rfl (by decide) g1 hl.1 rfl (Nat.le_of_ble_eq_true rfl) dX6_next_1 ⟨Nat.le_refl 0, Nat.le_refl 0⟩ (fun H locs hp => ?_)
    refine lv_bipush (v := 32) hx hb dX6_next_4 (by decide) ?_
    refine lv_icmp_eq (tgt := 18) hx hb dX6_next_6 (by decide) (fun c4 => ?_) (fun c4 => ?_)
    · have hF := if_p c4 hF
      exact b_X6_next_18 hVs X _ ih _ _ _ _ _ hp (lv_sub hl [0] rfl) hF
    · have hF := if_n c4 hF
      refine lv_aload_n hx hb dX6_next_9 rfl (lv_at hl 0 rfl) ?_
      obtain ⟨v6, e5, hF⟩ := ob_s hF
      refine m_callV (As := []) (rest := []) X hp (w_X6_see e5) q625 q627 qs6 q148 q628 0 rfl ds_X6_see ⟨Nat.le_of_ble_eq_true rfl, Nat.le_of_ble_eq_true rfl⟩ 7 (T := TX6) (N := 10) rfl (by decide) g1 hl.1 rfl (Nat.le_of_ble_eq_true rfl) dX6_next_10 ⟨Nat.le_refl 0, Nat.le_refl 0⟩ (fun H locs hp => ?_)
      refine lv_bipush (v := 10) hx hb dX6_next_13 (by decide) ?_
      refine lv_icmp_ne (tgt := 31) hx hb dX6_next_15 (by decide) (fun c7 => ?_) (fun c7 => ?_)
      · have hF := if_n c7 hF
        refine lv_aload_n hx hb dX6_next_31 rfl (lv_at hl 0 rfl) ?_
        refine lv_aload_n hx hb dX6_next_32 rfl (lv_at hl 0 rfl) ?_
        obtain ⟨v8, e9, hF⟩ := ob_s hF
        refine m_getI X hp e9 kX6 (Nat.le_of_ble_eq_true rfl) q588 dX6_next_33 ?_
        obtain ⟨M10, e11, hF⟩ := ob_s hF
        refine m_putW X hp e11 kX6 (Nat.le_of_ble_eq_true rfl) q589 rfl rfl rfl dX6_next_36 (fun H locs hp => ?_)
        refine lv_aload_n hx hb dX6_next_39 rfl (lv_at hl 0 rfl) ?_
        obtain ⟨v13, e12, hF⟩ := ob_s hF
        refine m_callV (As := []) (rest := []) X hp (w_X6_see e12) q625 q627 qs6 q148 q628 0 rfl ds_X6_see ⟨Nat.le_of_ble_eq_true rfl, Nat.le_of_ble_eq_true rfl⟩ 7 (T := TX6) (N := 10) rfl (by decide) (wF_s e11).1 hl.1 rfl (Nat.le_of_ble_eq_true rfl) dX6_next_40 ⟨Nat.le_refl 0, Nat.le_refl 0⟩ (fun H locs hp => ?_)
        refine lv_iconst (v := -1) hx hb dX6_next_43 (by decide) ?_
        refine lv_icmp_ne (tgt := 55) hx hb dX6_next_44 (by decide) (fun c14 => ?_) (fun c14 => ?_)
        · have hF := if_n c14 hF
          refine lv_aload_n hx hb dX6_next_55 rfl (lv_at hl 0 rfl) ?_
          obtain ⟨v16, e15, hF⟩ := ob_s hF
          refine m_callV (As := []) (rest := []) X hp (w_X6_isLetter e15) q629 q631 qs7 q148 q632 0 rfl ds_X6_isLetter ⟨Nat.le_of_ble_eq_true rfl, Nat.le_of_ble_eq_true rfl⟩ 7 (T := TX6) (N := 10) rfl (by decide) (wF_s e11).1 hl.1 rfl (Nat.le_of_ble_eq_true rfl) dX6_next_56 ⟨Nat.le_refl 0, Nat.le_refl 0⟩ (fun H locs hp => ?_)
          refine lv_if_eq (tgt := 93) hx hb dX6_next_59 (by decide) (fun c17 => ?_) (fun c17 => ?_)
          · have hF := if_p c17 hF
            refine lv_aload_n hx hb dX6_next_93 rfl (lv_at hl 0 rfl) ?_
            obtain ⟨v19, e18, hF⟩ := ob_s hF
            refine m_callV (As := []) (rest := []) X hp (w_X6_isDigit e18) q735 q737 qs14 q148 q738 0 rfl ds_X6_isDigit ⟨Nat.le_of_ble_eq_true rfl, Nat.le_of_ble_eq_true rfl⟩ 7 (T := TX6) (N := 10) rfl (by decide) (wF_s e11).1 hl.1 rfl (Nat.le_of_ble_eq_true rfl) dX6_next_94 ⟨Nat.le_refl 0, Nat.le_refl 0⟩ (fun H locs hp => ?_)
            refine lv_if_eq (tgt := 182) hx hb dX6_next_97 (by decide) (fun c20 => ?_) (fun c20 => ?_)
            · have hF := if_p c20 hF
              refine lv_aload_n hx hb dX6_next_182 rfl (lv_at hl 0 rfl) ?_
              refine lv_aload_n hx hb dX6_next_183 rfl (lv_at hl 0 rfl) ?_
              refine lv_aload_n hx hb dX6_next_184 rfl (lv_at hl 0 rfl) ?_
              obtain ⟨v22, e21, hF⟩ := ob_s hF
              refine m_callV (As := []) (rest := [.ref x0, .ref x0]) X hp (w_X6_see e21) q625 q627 qs6 q148 q628 0 rfl ds_X6_see ⟨Nat.le_of_ble_eq_true rfl, Nat.le_of_ble_eq_true rfl⟩ 7 (T := TX6) (N := 10) rfl (by decide) (wF_s e11).1 hl.1 rfl (Nat.le_of_ble_eq_true rfl) dX6_next_185 ⟨Nat.le_refl 0, Nat.le_refl 0⟩ (fun H locs hp => ?_)
              obtain ⟨v24, e23, hF⟩ := ob_s hF
              refine m_callV (As := [.int v22]) (rest := [.ref x0]) X hp (w_X6_isMark e23) q739 q741 qs15 q148 q742 1 rfl ds_X6_isMark ⟨Nat.le_of_ble_eq_true rfl, Nat.le_of_ble_eq_true rfl⟩ 7 (T := TX6) (N := 10) rfl (by decide) (wF_s e11).1 hl.1 rfl (Nat.le_of_ble_eq_true rfl) dX6_next_188 ⟨Nat.le_refl 0, Nat.le_refl 0⟩ (fun H locs hp => ?_)
              refine lv_if_eq (tgt := 201) hx hb dX6_next_191 (by decide) (fun c25 => ?_) (fun c25 => ?_)
              · have hF := if_p c25 hF
                refine lv_iconst (v := 1) hx hb dX6_next_201 (by decide) ?_
                exact b_X6_next_202 hVs X _ _ _ _ _ _ _ hp (lv_sub hl [0] rfl) hF
              · have hF := if_n c25 hF
                refine lv_aload_n hx hb dX6_next_194 rfl (lv_at hl 0 rfl) ?_
                obtain ⟨v27, e26, hF⟩ := ob_s hF
                refine m_callV (As := []) (rest := [.ref x0]) X hp (w_X6_see e26) q625 q627 qs6 q148 q628 0 rfl ds_X6_see ⟨Nat.le_of_ble_eq_true rfl, Nat.le_of_ble_eq_true rfl⟩ 7 (T := TX6) (N := 10) rfl (by decide) (wF_s e11).1 hl.1 rfl (Nat.le_of_ble_eq_true rfl) dX6_next_195 ⟨Nat.le_refl 0, Nat.le_refl 0⟩ (fun H locs hp => ?_)
                refine lv_goto (tgt := 202) hx hb dX6_next_198 (by decide) ?_
                exact b_X6_next_202 hVs X _ _ _ _ _ _ _ hp (lv_sub hl [0] rfl) hF
            · have hF := if_n c20 hF
              refine lv_aload_n hx hb dX6_next_100 rfl (lv_at hl 0 rfl) ?_
              refine lv_iconst (v := 0) hx hb dX6_next_101 (by decide) ?_
              obtain ⟨M28, e29, hF⟩ := ob_s hF
              refine m_putW X hp e29 kX6 (Nat.le_of_ble_eq_true rfl) q591 rfl rfl rfl dX6_next_102 (fun H locs hp => ?_)
              exact b_X6_next_105 hVs X _ _ _ _ _ _ hp (lv_sub hl [0] rfl) hF
          · have hF := if_n c17 hF
            exact b_X6_next_62 hVs X _ _ _ _ _ _ hp (lv_sub hl [0] rfl) hF
        · have hF := if_p c14 hF
          refine lv_aload_n hx hb dX6_next_47 rfl (lv_at hl 0 rfl) ?_
          refine lv_iconst (v := 0) hx hb dX6_next_48 (by decide) ?_
          obtain ⟨M30, e31, hF⟩ := ob_s hF
          refine m_putW X hp e31 kX6 (Nat.le_of_ble_eq_true rfl) q590 rfl rfl rfl dX6_next_49 (fun H locs hp => ?_)
          refine lv_goto (tgt := 215) hx hb dX6_next_52 (by decide) ?_
          cases hF
          exact m_vret X hp dX6_next_215
      · have hF := if_p c7 hF
        exact b_X6_next_18 hVs X _ ih _ _ _ _ _ hp (lv_sub hl [0] rfl) hF
def f_X6_next (V : Nat → Nat) (S : mSh) (M : mMm) (x0 : Nat) : Option mMm := (fb_X6_next_0 V S FU M x0)
theorem w_X6_next {x0 : Nat} {M' : mMm} (hVs : mVs V n0 P) (hF : f_X6_next V S M x0 = some M') : mCt l D n0 P yX6_next cX6_next 1 none 8 224 0 0 [.ref x0] S M n none S M' n := by
  refine m_ofW (by decide) (Nat.le_of_ble_eq_true rfl) (fun p e s m below meth c X hnm hp ls hl => ?_)
  have hx := X.1.1
  have hb := X.1.2.1
  have hown := X.1.2.2.2.1
  have hts := X.1.2.2.2.2
  have hl : lv_has ls 1 [(0, .ref x0)] := hl
  unfold f_X6_next at hF
  exact b_X6_next_0 hVs X _ _ _ _ _ _ hp (lv_sub hl [0] rfl) hF
end
section
variable {l : Launch} {D : va_G} {n0 : Nat} {P : mP} {S : mSh} {M : mMm} {n : Nat} {p : Program} {e : Env} {s : State} {m : MethodId} {args : Array Value} {below : List Frame} {meth : Method} {c : Code}
abbrev Rm_X8_init : Room := { frames := 1, cells := 0, slots := 0, locals := 60 }
def f_X8_init (S : mSh) (M : mMm) (x0 : Nat) : Option Unit := some ()
theorem w_X8_init {x0 : Nat} (hF : f_X8_init S M x0 = some ()) : mCt l D n0 P yX8_init cX8_init 1 none 1 60 0 0 [.ref x0] S M n none S M n := by
  refine m_ofW (by decide) (Nat.le_of_ble_eq_true rfl) (fun p e s m below meth c X hnm hp ls hl => ?_)
  have hx := X.1.1
  have hb := X.1.2.1
  have hown := X.1.2.2.2.1
  have hts := X.1.2.2.2.2
  have hl : lv_has ls 1 [(0, .ref x0)] := hl
  unfold f_X8_init at hF
  refine lv_aload_n hx hb dX8_init_0 rfl (lv_at hl 0 rfl) ?_
  refine m_objInit X q835 q168 q169 hl.1 (Nat.le_of_ble_eq_true rfl) (Nat.le_of_ble_eq_true rfl) dX8_init_1 ?_
  cases hF
  exact m_vret X hp dX8_init_4
end
section
variable {l : Launch} {D : va_G} {n0 : Nat} {P : mP} {S : mSh} {M : mMm} {n : Nat} {p : Program} {e : Env} {s : State} {m : MethodId} {args : Array Value} {below : List Frame} {meth : Method} {c : Code}
abbrev Rm_X9_init : Room := { frames := 2, cells := 0, slots := 0, locals := 80 }
def f_X9_init (S : mSh) (M : mMm) (x0 : Nat) (x1 : Int32) : Option mMm := ob (f_X8_init S M x0) fun _ => ob (wF S M x0 9 0 (.int x1)) fun M3 => some M3
theorem w_X9_init {x0 : Nat} {x1 : Int32} {M' : mMm} (hF : f_X9_init S M x0 x1 = some M') : mCt l D n0 P yX9_init cX9_init 2 none 2 80 0 0 [.ref x0, .int x1] S M n none S M' n := by
  refine m_ofW (by decide) (Nat.le_of_ble_eq_true rfl) (fun p e s m below meth c X hnm hp ls hl => ?_)
  have hx := X.1.1
  have hb := X.1.2.1
  have hown := X.1.2.2.2.1
  have hts := X.1.2.2.2.2
  have hl : lv_has ls 2 [(0, .ref x0), (1, .int x1)] := hl
  unfold f_X9_init at hF
  refine lv_aload_n hx hb dX9_init_0 rfl (lv_at hl 0 rfl) ?_
  obtain ⟨_, e1, hF⟩ := ob_s hF
  refine m_callIN (As := []) (rest := []) X hp (w_X8_init e1) q832 q833 q155 q834 rfl 0 rfl ds_X8_init ⟨Nat.le_of_ble_eq_true rfl, Nat.le_of_ble_eq_true rfl⟩ hl.1 rfl (Nat.le_of_ble_eq_true rfl) dX9_init_1 ⟨Nat.le_refl 0, Nat.le_refl 0⟩ (fun H locs hp => ?_)
  refine lv_aload_n hx hb dX9_init_4 rfl (lv_at hl 0 rfl) ?_
  refine lv_iload_n hx hb dX9_init_5 rfl (lv_at hl 1 rfl) ?_
  obtain ⟨M3, e4, hF⟩ := ob_s hF
  refine m_putWF X hp e4 kX9 (Nat.le_of_ble_eq_true rfl) q836 rfl hnm rfl rfl rfl dX9_init_6 (fun H locs hp => ?_)
  cases hF
  exact m_vret X hp dX9_init_9
end
section
variable {l : Launch} {D : va_G} {n0 : Nat} {P : mP} {S : mSh} {M : mMm} {n : Nat} {p : Program} {e : Env} {s : State} {m : MethodId} {args : Array Value} {below : List Frame} {meth : Method} {c : Code}
abbrev Rm_X10_init : Room := { frames := 2, cells := 0, slots := 0, locals := 80 }
def f_X10_init (S : mSh) (M : mMm) (x0 : Nat) (x1 : Int32) : Option mMm := ob (f_X8_init S M x0) fun _ => ob (wF S M x0 10 0 (.int x1)) fun M3 => some M3
theorem w_X10_init {x0 : Nat} {x1 : Int32} {M' : mMm} (hF : f_X10_init S M x0 x1 = some M') : mCt l D n0 P yX10_init cX10_init 2 none 2 80 0 0 [.ref x0, .int x1] S M n none S M' n := by
  refine m_ofW (by decide) (Nat.le_of_ble_eq_true rfl) (fun p e s m below meth c X hnm hp ls hl => ?_)
  have hx := X.1.1
  have hb := X.1.2.1
  have hown := X.1.2.2.2.1
  have hts := X.1.2.2.2.2
  have hl : lv_has ls 2 [(0, .ref x0), (1, .int x1)] := hl
  unfold f_X10_init at hF
  refine lv_aload_n hx hb dX10_init_0 rfl (lv_at hl 0 rfl) ?_
  obtain ⟨_, e1, hF⟩ := ob_s hF
  refine m_callIN (As := []) (rest := []) X hp (w_X8_init e1) q845 q833 q155 q834 rfl 0 rfl ds_X8_init ⟨Nat.le_of_ble_eq_true rfl, Nat.le_of_ble_eq_true rfl⟩ hl.1 rfl (Nat.le_of_ble_eq_true rfl) dX10_init_1 ⟨Nat.le_refl 0, Nat.le_refl 0⟩ (fun H locs hp => ?_)
  refine lv_aload_n hx hb dX10_init_4 rfl (lv_at hl 0 rfl) ?_
  refine lv_iload_n hx hb dX10_init_5 rfl (lv_at hl 1 rfl) ?_
  obtain ⟨M3, e4, hF⟩ := ob_s hF
  refine m_putWF X hp e4 kX10 (Nat.le_of_ble_eq_true rfl) q846 rfl hnm rfl rfl rfl dX10_init_6 (fun H locs hp => ?_)
  cases hF
  exact m_vret X hp dX10_init_9
end
section
variable {l : Launch} {D : va_G} {n0 : Nat} {P : mP} {S : mSh} {M : mMm} {n : Nat} {p : Program} {e : Env} {s : State} {m : MethodId} {args : Array Value} {below : List Frame} {meth : Method} {c : Code}
abbrev Rm_X11_init : Room := { frames := 2, cells := 0, slots := 0, locals := 80 }
def f_X11_init (S : mSh) (M : mMm) (x0 : Nat) (x1 : Nat) (x2 : Int32) (x3 : Nat) : Option mMm := ob (f_X8_init S M x0) fun _ => ob (wF S M x0 11 0 (.ref x1)) fun M3 => ob (wF S M3 x0 11 2 (.int x2)) fun M5 => ob (wF S M5 x0 11 1 (.ref x3)) fun M7 => some M7
theorem w_X11_init {x0 : Nat} {x1 : Nat} {x2 : Int32} {x3 : Nat} {M' : mMm} (hF : f_X11_init S M x0 x1 x2 x3 = some M') : mCt l D n0 P yX11_init cX11_init 4 none 2 80 0 0 [.ref x0, .ref x1, .int x2, .ref x3] S M n none S M' n := by
  refine m_ofW (by decide) (Nat.le_of_ble_eq_true rfl) (fun p e s m below meth c X hnm hp ls hl => ?_)
  have hx := X.1.1
  have hb := X.1.2.1
  have hown := X.1.2.2.2.1
  have hts := X.1.2.2.2.2
  have hl : lv_has ls 4 [(0, .ref x0), (1, .ref x1), (2, .int x2), (3, .ref x3)] := hl
  unfold f_X11_init at hF
  refine lv_aload_n hx hb dX11_init_0 rfl (lv_at hl 0 rfl) ?_
  obtain ⟨_, e1, hF⟩ := ob_s hF
  refine m_callIN (As := []) (rest := []) X hp (w_X8_init e1) q855 q833 q155 q834 rfl 0 rfl ds_X8_init ⟨Nat.le_of_ble_eq_true rfl, Nat.le_of_ble_eq_true rfl⟩ hl.1 rfl (Nat.le_of_ble_eq_true rfl) dX11_init_1 ⟨Nat.le_refl 0, Nat.le_refl 0⟩ (fun H locs hp => ?_)
  refine lv_aload_n hx hb dX11_init_4 rfl (lv_at hl 0 rfl) ?_
  refine lv_aload_n hx hb dX11_init_5 rfl (lv_at hl 1 rfl) ?_
  obtain ⟨M3, e4, hF⟩ := ob_s hF
  refine m_putWF X hp e4 kX11 (Nat.le_of_ble_eq_true rfl) q856 rfl hnm rfl rfl rfl dX11_init_6 (fun H locs hp => ?_)
  refine lv_aload_n hx hb dX11_init_9 rfl (lv_at hl 0 rfl) ?_
  refine lv_iload_n hx hb dX11_init_10 rfl (lv_at hl 2 rfl) ?_
  obtain ⟨M5, e6, hF⟩ := ob_s hF
  refine m_putWF X hp e6 kX11 (Nat.le_of_ble_eq_true rfl) q858 rfl hnm rfl rfl rfl dX11_init_11 (fun H locs hp => ?_)
  refine lv_aload_n hx hb dX11_init_14 rfl (lv_at hl 0 rfl) ?_
  refine lv_aload_n hx hb dX11_init_15 rfl (lv_at hl 3 rfl) ?_
  obtain ⟨M7, e8, hF⟩ := ob_s hF
  refine m_putWF X hp e8 kX11 (Nat.le_of_ble_eq_true rfl) q857 rfl hnm rfl rfl rfl dX11_init_16 (fun H locs hp => ?_)
  cases hF
  exact m_vret X hp dX11_init_19
end
section
variable {l : Launch} {D : va_G} {n0 : Nat} {P : mP} {S : mSh} {M : mMm} {n : Nat} {p : Program} {e : Env} {s : State} {m : MethodId} {args : Array Value} {below : List Frame} {meth : Method} {c : Code}
abbrev Rm_X12_init : Room := { frames := 2, cells := 0, slots := 0, locals := 80 }
def f_X12_init (S : mSh) (M : mMm) (x0 : Nat) (x1 : Nat) : Option mMm := ob (f_X8_init S M x0) fun _ => ob (wF S M x0 12 0 (.ref x1)) fun M3 => some M3
theorem w_X12_init {x0 : Nat} {x1 : Nat} {M' : mMm} (hF : f_X12_init S M x0 x1 = some M') : mCt l D n0 P yX12_init cX12_init 2 none 2 80 0 0 [.ref x0, .ref x1] S M n none S M' n := by
  refine m_ofW (by decide) (Nat.le_of_ble_eq_true rfl) (fun p e s m below meth c X hnm hp ls hl => ?_)
  have hx := X.1.1
  have hb := X.1.2.1
  have hown := X.1.2.2.2.1
  have hts := X.1.2.2.2.2
  have hl : lv_has ls 2 [(0, .ref x0), (1, .ref x1)] := hl
  unfold f_X12_init at hF
  refine lv_aload_n hx hb dX12_init_0 rfl (lv_at hl 0 rfl) ?_
  obtain ⟨_, e1, hF⟩ := ob_s hF
  refine m_callIN (As := []) (rest := []) X hp (w_X8_init e1) q887 q833 q155 q834 rfl 0 rfl ds_X8_init ⟨Nat.le_of_ble_eq_true rfl, Nat.le_of_ble_eq_true rfl⟩ hl.1 rfl (Nat.le_of_ble_eq_true rfl) dX12_init_1 ⟨Nat.le_refl 0, Nat.le_refl 0⟩ (fun H locs hp => ?_)
  refine lv_aload_n hx hb dX12_init_4 rfl (lv_at hl 0 rfl) ?_
  refine lv_aload_n hx hb dX12_init_5 rfl (lv_at hl 1 rfl) ?_
  obtain ⟨M3, e4, hF⟩ := ob_s hF
  refine m_putWF X hp e4 kX12 (Nat.le_of_ble_eq_true rfl) q888 rfl hnm rfl rfl rfl dX12_init_6 (fun H locs hp => ?_)
  cases hF
  exact m_vret X hp dX12_init_9
end
section
variable {l : Launch} {D : va_G} {n0 : Nat} {P : mP} {S : mSh} {M : mMm} {n : Nat} {p : Program} {e : Env} {s : State} {m : MethodId} {args : Array Value} {below : List Frame} {meth : Method} {c : Code}
abbrev Rm_X13_initN : Room := { frames := 1, cells := 0, slots := 0, locals := 60 }
def f_X13_initN (S : mSh) (M : mMm) (x0 : Nat) (x1 : Int32) (x2 : Nat) : Option mMm := ob (wF S M x0 13 0 (.int x1)) fun M1 => ob (wF S M1 x0 13 1 (.ref x2)) fun M3 => ob (wF S M3 x0 13 2 (.null)) fun M5 => some M5
theorem w_X13_initN {x0 : Nat} {x1 : Int32} {x2 : Nat} {M' : mMm} (hF : f_X13_initN S M x0 x1 x2 = some M') : mCt l D n0 P yX13_init cX13_init 4 none 1 60 0 0 [.ref x0, .int x1, .ref x2, .null] S M n none S M' n := by
  refine m_ofW (by decide) (Nat.le_of_ble_eq_true rfl) (fun p e s m below meth c X hnm hp ls hl => ?_)
  have hx := X.1.1
  have hb := X.1.2.1
  have hown := X.1.2.2.2.1
  have hts := X.1.2.2.2.2
  have hl : lv_has ls 4 [(0, .ref x0), (1, .int x1), (2, .ref x2), (3, .null)] := hl
  unfold f_X13_initN at hF
  refine lv_aload_n hx hb dX13_init_0 rfl (lv_at hl 0 rfl) ?_
  refine m_objInit X q901 q168 q169 hl.1 (Nat.le_of_ble_eq_true rfl) (Nat.le_of_ble_eq_true rfl) dX13_init_1 ?_
  refine lv_aload_n hx hb dX13_init_4 rfl (lv_at hl 0 rfl) ?_
  refine lv_iload_n hx hb dX13_init_5 rfl (lv_at hl 1 rfl) ?_
  obtain ⟨M1, e2, hF⟩ := ob_s hF
  refine m_putWF X hp e2 kX13 (Nat.le_of_ble_eq_true rfl) q902 rfl hnm rfl rfl rfl dX13_init_6 (fun H locs hp => ?_)
  refine lv_aload_n hx hb dX13_init_9 rfl (lv_at hl 0 rfl) ?_
  refine lv_aload_n hx hb dX13_init_10 rfl (lv_at hl 2 rfl) ?_
  obtain ⟨M3, e4, hF⟩ := ob_s hF
  refine m_putWF X hp e4 kX13 (Nat.le_of_ble_eq_true rfl) q904 rfl hnm rfl rfl rfl dX13_init_11 (fun H locs hp => ?_)
  refine lv_aload_n hx hb dX13_init_14 rfl (lv_at hl 0 rfl) ?_
  refine lv_aload_nN hx hb dX13_init_15 rfl (lv_at hl 3 rfl) ?_
  obtain ⟨M5, e6, hF⟩ := ob_s hF
  refine m_putWF X hp e6 kX13 (Nat.le_of_ble_eq_true rfl) q906 rfl hnm rfl rfl rfl dX13_init_16 (fun H locs hp => ?_)
  cases hF
  exact m_vret X hp dX13_init_19
end
section
variable {l : Launch} {D : va_G} {n0 : Nat} {P : mP} {S : mSh} {M : mMm} {n : Nat} {p : Program} {e : Env} {s : State} {m : MethodId} {args : Array Value} {below : List Frame} {meth : Method} {c : Code}
abbrev Rm_X13_initA : Room := { frames := 1, cells := 0, slots := 0, locals := 60 }
def f_X13_initA (S : mSh) (M : mMm) (x0 : Nat) (x1 : Int32) (x2 : Nat) (x3 : Nat) : Option mMm := ob (wF S M x0 13 0 (.int x1)) fun M1 => ob (wF S M1 x0 13 1 (.ref x2)) fun M3 => ob (wF S M3 x0 13 2 (.ref x3)) fun M5 => some M5
theorem w_X13_initA {x0 : Nat} {x1 : Int32} {x2 : Nat} {x3 : Nat} {M' : mMm} (hF : f_X13_initA S M x0 x1 x2 x3 = some M') : mCt l D n0 P yX13_init cX13_init 4 none 1 60 0 0 [.ref x0, .int x1, .ref x2, .ref x3] S M n none S M' n := by
  refine m_ofW (by decide) (Nat.le_of_ble_eq_true rfl) (fun p e s m below meth c X hnm hp ls hl => ?_)
  have hx := X.1.1
  have hb := X.1.2.1
  have hown := X.1.2.2.2.1
  have hts := X.1.2.2.2.2
  have hl : lv_has ls 4 [(0, .ref x0), (1, .int x1), (2, .ref x2), (3, .ref x3)] := hl
  unfold f_X13_initA at hF
  refine lv_aload_n hx hb dX13_init_0 rfl (lv_at hl 0 rfl) ?_
  refine m_objInit X q901 q168 q169 hl.1 (Nat.le_of_ble_eq_true rfl) (Nat.le_of_ble_eq_true rfl) dX13_init_1 ?_
  refine lv_aload_n hx hb dX13_init_4 rfl (lv_at hl 0 rfl) ?_
  refine lv_iload_n hx hb dX13_init_5 rfl (lv_at hl 1 rfl) ?_
  obtain ⟨M1, e2, hF⟩ := ob_s hF
  refine m_putWF X hp e2 kX13 (Nat.le_of_ble_eq_true rfl) q902 rfl hnm rfl rfl rfl dX13_init_6 (fun H locs hp => ?_)
  refine lv_aload_n hx hb dX13_init_9 rfl (lv_at hl 0 rfl) ?_
  refine lv_aload_n hx hb dX13_init_10 rfl (lv_at hl 2 rfl) ?_
  obtain ⟨M3, e4, hF⟩ := ob_s hF
  refine m_putWF X hp e4 kX13 (Nat.le_of_ble_eq_true rfl) q904 rfl hnm rfl rfl rfl dX13_init_11 (fun H locs hp => ?_)
  refine lv_aload_n hx hb dX13_init_14 rfl (lv_at hl 0 rfl) ?_
  refine lv_aload_n hx hb dX13_init_15 rfl (lv_at hl 3 rfl) ?_
  obtain ⟨M5, e6, hF⟩ := ob_s hF
  refine m_putWF X hp e6 kX13 (Nat.le_of_ble_eq_true rfl) q906 rfl hnm rfl rfl rfl dX13_init_16 (fun H locs hp => ?_)
  cases hF
  exact m_vret X hp dX13_init_19
end
def f_X13_init (S : mSh) (M : mMm) (x0 : Nat) (x1 : Int32) (x2 : Nat) (x3 : Option Nat) : Option mMm := match x3 with
  | none => f_X13_initN S M x0 x1 x2
  | some a => f_X13_initA S M x0 x1 x2 a
theorem w_X13_init {l : Launch} {D : va_G} {n0 : Nat} {P : mP} {S : mSh} {M : mMm} {n : Nat} {x0 : Nat} {x1 : Int32} {x2 : Nat} {x3 : Option Nat} {M' : mMm} (hF : f_X13_init S M x0 x1 x2 x3 = some M') : mCt l D n0 P yX13_init cX13_init 4 none 1 60 0 0 [.ref x0, .int x1, .ref x2, mrO x3] S M n none S M' n := by
  cases x3 with
  | none => exact w_X13_initN hF
  | some a => exact w_X13_initA hF
section
variable {l : Launch} {D : va_G} {n0 : Nat} {P : mP} {S : mSh} {M : mMm} {n : Nat} {p : Program} {e : Env} {s : State} {m : MethodId} {args : Array Value} {below : List Frame} {meth : Method} {c : Code}
abbrev Rm_X6_lays : Room := { frames := 1, cells := 0, slots := 0, locals := 21 }
def fb_X6_lays_27 (S : mSh) (k8 : mMm → Nat → Int32 → Int32 → Int32 → Int32 → Int32 → Int32 → Option mMm) : Nat → mMm → Nat → Int32 → Int32 → Int32 → Int32 → Int32 → Int32 → Int32 → Option mMm
  | 0, _, _, _, _, _, _, _, _, _ => none
  | t + 1, M, x0, x1, x2, x3, x4, x5, x6, x7 => ob (f_J4_max x2 x4) fun v9 => (if v9 < x7 then nm (x6 + (1 : Int32)) fun v11 => (k8 M x0 x1 x2 x3 x4 x5 v11) else ob (rR S M x0 7 1) fun v13 => ob (wA S M v13 100 (((12 : Int32) * x6) + x7) (.int x1)) fun M15 => nm (x7 + (1 : Int32)) fun v17 => (fb_X6_lays_27 S k8 t M15 x0 x1 x2 x3 x4 x5 x6 v17))
theorem b_X6_lays_27 {M' : mMm} (X : mCx D n0 P p m c cX6_lays 8 s args yX6_lays.cls meth none) (k8 : mMm → Nat → Int32 → Int32 → Int32 → Int32 → Int32 → Int32 → Option mMm) (hk8 : ∀ (M : mMm) (x0 : Nat) (x1 : Int32) (x2 : Int32) (x3 : Int32) (x4 : Int32) (x5 : Int32) (x6 : Int32) (H : Heap) (locs : List Loc) (ls : Array Slot), mHp D n0 S M n s H locs → lv_has ls 8 [(0, .ref x0), (1, .int x1), (2, .int x2), (3, .int x3), (4, .int x4), (5, .int x5), (6, .int x6)] → k8 M x0 x1 x2 x3 x4 x5 x6 = some M' → W p l e Rm_X6_lays s m args below meth c H locs 0 0 (MQ below (mQ D n0 none S M' n) args s 0 0 (mA n0)) (F0 m 8 ls [])) : ∀ t : Nat, ∀ (M : mMm) (x0 : Nat) (x1 : Int32) (x2 : Int32) (x3 : Int32) (x4 : Int32) (x5 : Int32) (x6 : Int32) (x7 : Int32) (H : Heap) (locs : List Loc) (ls : Array Slot), mHp D n0 S M n s H locs → lv_has ls 8 [(0, .ref x0), (1, .int x1), (2, .int x2), (3, .int x3), (4, .int x4), (5, .int x5), (6, .int x6), (7, .int x7)] → fb_X6_lays_27 S k8 t M x0 x1 x2 x3 x4 x5 x6 x7 = some M' → W p l e Rm_X6_lays s m args below meth c H locs 0 0 (MQ below (mQ D n0 none S M' n) args s 0 0 (mA n0)) (F0 m 27 ls []) := by
  have hx := X.1.1
  have hb := X.1.2.1
  have hown := X.1.2.2.2.1
  have hts := X.1.2.2.2.2
  intro t
  induction t with
  | zero =>
    intro M x0 x1 x2 x3 x4 x5 x6 x7 H locs ls hp hl hF
    have hF : none = some M' := hF
    cases hF
  | succ t ih =>
    intro M x0 x1 x2 x3 x4 x5 x6 x7 H locs ls hp hl hF
    rw [fb_X6_lays_27] at hF
    refine lv_iload hx hb dX6_lays_27 (lv_at hl 7 rfl) ?_
    refine lv_iload_n hx hb dX6_lays_29 rfl (lv_at hl 2 rfl) ?_
    refine lv_iload hx hb dX6_lays_30 (lv_at hl 4 rfl) ?_
    obtain ⟨v9, e8, hF⟩ := ob_s hF
    refine m_callS (As := [.int x2, .int x4]) (rest := [.int x7]) X hp (w_J4_max e8) q926 q333 q141 q334 2 rfl ds_J4_max ⟨Nat.le_of_ble_eq_true rfl, Nat.le_of_ble_eq_true rfl⟩ hl.1 rfl (Nat.le_of_ble_eq_true rfl) dX6_lays_32 ⟨Nat.le_refl 0, Nat.le_refl 0⟩ (fun H locs hp => ?_)
    refine lv_icmp_gt (tgt := 58) hx hb dX6_lays_35 (by decide) (fun c10 => ?_) (fun c10 => ?_)
    · have hF := if_p c10 hF
      obtain ⟨v11, ev12⟩ : ∃ y : Int32, y = x6 + (1 : Int32) := ⟨_, rfl⟩
      have hF := nm_s hF ev12
      refine lv_iinc (v := v11) (lv' := [(6, .int v11), (0, .ref x0), (1, .int x1), (2, .int x2), (3, .int x3), (4, .int x4), (5, .int x5), (7, .int x7)]) hx hb dX6_lays_58 hl (k := 6) rfl (by rw [ev12]; rfl) (by decide) rfl (fun ls hl => ?_)
      refine lv_goto (tgt := 8) hx hb dX6_lays_61 (by decide) ?_
      exact hk8 _ _ _ _ _ _ _ _ _ _ _ hp (lv_sub hl [1, 2, 3, 4, 5, 6, 0] rfl) hF
    · have hF := if_n c10 hF
      refine lv_aload_n hx hb dX6_lays_38 rfl (lv_at hl 0 rfl) ?_
      obtain ⟨v13, e14, hF⟩ := ob_s hF
      refine m_getR X hp e14 kX6 (Nat.le_of_ble_eq_true rfl) q586 dX6_lays_39 ?_
      refine lv_bipush (v := 12) hx hb dX6_lays_42 (by decide) ?_
      refine lv_iload hx hb dX6_lays_44 (lv_at hl 6 rfl) ?_
      refine lv_imul hx hb dX6_lays_46 ?_
      refine lv_iload hx hb dX6_lays_47 (lv_at hl 7 rfl) ?_
      refine lv_iadd hx hb dX6_lays_49 ?_
      refine lv_iload_n hx hb dX6_lays_50 rfl (lv_at hl 1 rfl) ?_
      obtain ⟨M15, e16, hF⟩ := ob_s hF
      refine m_iaW X hp e16 dX6_lays_51 (fun H locs hp => ?_)
      obtain ⟨v17, ev18⟩ : ∃ y : Int32, y = x7 + (1 : Int32) := ⟨_, rfl⟩
      have hF := nm_s hF ev18
      refine lv_iinc (v := v17) (lv' := [(7, .int v17), (0, .ref x0), (1, .int x1), (2, .int x2), (3, .int x3), (4, .int x4), (5, .int x5), (6, .int x6)]) hx hb dX6_lays_52 hl (k := 7) rfl (by rw [ev18]; rfl) (by decide) rfl (fun ls hl => ?_)
      refine lv_goto (tgt := 27) hx hb dX6_lays_55 (by decide) ?_
      exact ih _ _ _ _ _ _ _ _ _ _ _ _ hp (lv_sub hl [1, 2, 3, 4, 5, 6, 7, 0] rfl) hF
def fb_X6_lays_8 (S : mSh) : Nat → mMm → Nat → Int32 → Int32 → Int32 → Int32 → Int32 → Int32 → Option mMm
  | 0, _, _, _, _, _, _, _, _ => none
  | t + 1, M, x0, x1, x2, x3, x4, x5, x6 => ob (f_J4_max x3 x5) fun v4 => (if v4 < x6 then some M else ob (f_J4_min x2 x4) fun v7 => (fb_X6_lays_27 S (fb_X6_lays_8 S t) FU M x0 x1 x2 x3 x4 x5 x6 v7))
theorem b_X6_lays_8 {M' : mMm} (X : mCx D n0 P p m c cX6_lays 8 s args yX6_lays.cls meth none) : ∀ t : Nat, ∀ (M : mMm) (x0 : Nat) (x1 : Int32) (x2 : Int32) (x3 : Int32) (x4 : Int32) (x5 : Int32) (x6 : Int32) (H : Heap) (locs : List Loc) (ls : Array Slot), mHp D n0 S M n s H locs → lv_has ls 8 [(0, .ref x0), (1, .int x1), (2, .int x2), (3, .int x3), (4, .int x4), (5, .int x5), (6, .int x6)] → fb_X6_lays_8 S t M x0 x1 x2 x3 x4 x5 x6 = some M' → W p l e Rm_X6_lays s m args below meth c H locs 0 0 (MQ below (mQ D n0 none S M' n) args s 0 0 (mA n0)) (F0 m 8 ls []) := by
  have hx := X.1.1
  have hb := X.1.2.1
  have hown := X.1.2.2.2.1
  have hts := X.1.2.2.2.2
  intro t
  induction t with
  | zero =>
    intro M x0 x1 x2 x3 x4 x5 x6 H locs ls hp hl hF
    have hF : none = some M' := hF
    cases hF
  | succ t ih =>
    intro M x0 x1 x2 x3 x4 x5 x6 H locs ls hp hl hF
    rw [fb_X6_lays_8] at hF
    refine lv_iload hx hb dX6_lays_8 (lv_at hl 6 rfl) ?_
    refine lv_iload_n hx hb dX6_lays_10 rfl (lv_at hl 3 rfl) ?_
    refine lv_iload hx hb dX6_lays_11 (lv_at hl 5 rfl) ?_
    obtain ⟨v4, e3, hF⟩ := ob_s hF
    refine m_callS (As := [.int x3, .int x5]) (rest := [.int x6]) X hp (w_J4_max e3) q926 q333 q141 q334 2 rfl ds_J4_max ⟨Nat.le_of_ble_eq_true rfl, Nat.le_of_ble_eq_true rfl⟩ hl.1 rfl (Nat.le_of_ble_eq_true rfl) dX6_lays_13 ⟨Nat.le_refl 0, Nat.le_refl 0⟩ (fun H locs hp => ?_)
    refine lv_icmp_gt (tgt := 64) hx hb dX6_lays_16 (by decide) (fun c5 => ?_) (fun c5 => ?_)
    · have hF := if_p c5 hF
      cases hF
      exact m_vret X hp dX6_lays_64
    · have hF := if_n c5 hF
      refine lv_iload_n hx hb dX6_lays_19 rfl (lv_at hl 2 rfl) ?_
      refine lv_iload hx hb dX6_lays_20 (lv_at hl 4 rfl) ?_
      obtain ⟨v7, e6, hF⟩ := ob_s hF
      refine m_callS (As := [.int x2, .int x4]) (rest := []) X hp (w_J4_min e6) q925 q368 q141 q369 2 rfl ds_J4_min ⟨Nat.le_of_ble_eq_true rfl, Nat.le_of_ble_eq_true rfl⟩ hl.1 rfl (Nat.le_of_ble_eq_true rfl) dX6_lays_22 ⟨Nat.le_refl 0, Nat.le_refl 0⟩ (fun H locs hp => ?_)
      refine lv_istore (lv' := [(7, .int v7), (0, .ref x0), (1, .int x1), (2, .int x2), (3, .int x3), (4, .int x4), (5, .int x5), (6, .int x6)]) hx hb dX6_lays_25 hl (by decide) rfl (fun ls hl => ?_)
      exact b_X6_lays_27 X _ ih _ _ _ _ _ _ _ _ _ _ _ _ _ hp (lv_sub hl [1, 2, 3, 4, 5, 6, 7, 0] rfl) hF
def f_X6_lays (S : mSh) (M : mMm) (x0 : Nat) (x1 : Int32) (x2 : Int32) (x3 : Int32) (x4 : Int32) (x5 : Int32) : Option mMm := ob (f_J4_min x3 x5) fun v2 => (fb_X6_lays_8 S FU M x0 x1 x2 x3 x4 x5 v2)
theorem w_X6_lays {x0 : Nat} {x1 : Int32} {x2 : Int32} {x3 : Int32} {x4 : Int32} {x5 : Int32} {M' : mMm} (hF : f_X6_lays S M x0 x1 x2 x3 x4 x5 = some M') : mCt l D n0 P yX6_lays cX6_lays 8 none 1 21 0 0 [.ref x0, .int x1, .int x2, .int x3, .int x4, .int x5] S M n none S M' n := by
  refine m_ofW (by decide) (Nat.le_of_ble_eq_true rfl) (fun p e s m below meth c X hnm hp ls hl => ?_)
  have hx := X.1.1
  have hb := X.1.2.1
  have hown := X.1.2.2.2.1
  have hts := X.1.2.2.2.2
  have hl : lv_has ls 8 [(0, .ref x0), (1, .int x1), (2, .int x2), (3, .int x3), (4, .int x4), (5, .int x5)] := hl
  unfold f_X6_lays at hF
  refine lv_iload_n hx hb dX6_lays_0 rfl (lv_at hl 3 rfl) ?_
  refine lv_iload hx hb dX6_lays_1 (lv_at hl 5 rfl) ?_
  obtain ⟨v2, e1, hF⟩ := ob_s hF
  refine m_callS (As := [.int x3, .int x5]) (rest := []) X hp (w_J4_min e1) q925 q368 q141 q369 2 rfl ds_J4_min ⟨Nat.le_of_ble_eq_true rfl, Nat.le_of_ble_eq_true rfl⟩ hl.1 rfl (Nat.le_of_ble_eq_true rfl) dX6_lays_3 ⟨Nat.le_refl 0, Nat.le_refl 0⟩ (fun H locs hp => ?_)
  refine lv_istore (lv' := [(6, .int v2), (0, .ref x0), (1, .int x1), (2, .int x2), (3, .int x3), (4, .int x4), (5, .int x5)]) hx hb dX6_lays_6 hl (by decide) rfl (fun ls hl => ?_)
  exact b_X6_lays_8 X _ _ _ _ _ _ _ _ _ _ _ _ hp (lv_sub hl [1, 2, 3, 4, 5, 6, 0] rfl) hF
end
section
variable {l : Launch} {D : va_G} {n0 : Nat} {P : mP} {S : mSh} {M : mMm} {n : Nat} {p : Program} {e : Env} {s : State} {m : MethodId} {args : Array Value} {below : List Frame} {meth : Method} {c : Code}
abbrev Rm_X1_isLaid : Room := { frames := 2, cells := 0, slots := 0, locals := 40 }
def fb_X1_isLaid_73 (S : mSh) (k26 : mMm → Nat → Int32 → Option mMm) (M : mMm) (x0 : Nat) (x2 : Int32) : Option mMm := nm (x2 + (1 : Int32)) fun v44 => (k26 M x0 v44)
theorem b_X1_isLaid_73 {M' : mMm} (X : mCx D n0 P p m c cX1_isLaid 3 s args yX1_isLaid.cls meth none) (k26 : mMm → Nat → Int32 → Option mMm) (hk26 : ∀ (M : mMm) (x0 : Nat) (x2 : Int32) (H : Heap) (locs : List Loc) (ls : Array Slot), mHp D n0 S M n s H locs → lv_has ls 3 [(0, .ref x0), (2, .int x2)] → k26 M x0 x2 = some M' → W p l e Rm_X1_isLaid s m args below meth c H locs 0 0 (MQ below (mQ D n0 none S M' n) args s 0 0 (mA n0)) (F0 m 26 ls [])) : ∀ (M : mMm) (x0 : Nat) (x2 : Int32) (H : Heap) (locs : List Loc) (ls : Array Slot), mHp D n0 S M n s H locs → lv_has ls 3 [(0, .ref x0), (2, .int x2)] → fb_X1_isLaid_73 S k26 M x0 x2 = some M' → W p l e Rm_X1_isLaid s m args below meth c H locs 0 0 (MQ below (mQ D n0 none S M' n) args s 0 0 (mA n0)) (F0 m 73 ls []) := by
  have hx := X.1.1
  have hb := X.1.2.1
  have hown := X.1.2.2.2.1
  have hts := X.1.2.2.2.2
  intro M x0 x2 H locs ls hp hl hF
  unfold fb_X1_isLaid_73 at hF
  obtain ⟨v44, ev45⟩ : ∃ y : Int32, y = x2 + (1 : Int32) := ⟨_, rfl⟩
  have hF := nm_s hF ev45
  refine lv_iinc (v := v44) (lv' := [(2, .int v44), (0, .ref x0)]) hx hb dX1_isLaid_73 hl (k := 1) rfl (by rw [ev45]; rfl) (by decide) rfl (fun ls hl => ?_)
  refine lv_goto (tgt := 26) hx hb dX1_isLaid_76 (by decide) ?_
  exact hk26 _ _ _ _ _ _ hp (lv_sub hl [1, 0] rfl) hF
def fb_X1_isLaid_26 (S : mSh) : Nat → mMm → Nat → Int32 → Option mMm
  | 0, _, _, _ => none
  | t + 1, M, x0, x2 => ob (rI S M x0 2 10) fun v14 => (if v14 ≤ x2 then some M else ob (rR S M x0 2 1) fun v17 => ob (aR S M v17 104 x2) fun v19 => gd ((S v19).1 = 5) (ob (f_X4_isIn S M v19) fun v23 => (if v23 = 0 then (fb_X1_isLaid_73 S (fb_X1_isLaid_26 S t) M x0 x2) else ob (rR S M x0 2 0) fun v25 => ob (rR S M x0 2 1) fun v27 => ob (aR S M v27 104 x2) fun v29 => ob (rI S M v29 5 1) fun v31 => ob (aI S M v25 100 v31) fun v33 => (if v33 = (1 : Int32) then ob (rR S M x0 2 1) fun v36 => ob (aR S M v36 104 x2) fun v38 => gd ((S v38).1 = 5) (ob (f_X4_goes S M v38) fun M43 => (fb_X1_isLaid_73 S (fb_X1_isLaid_26 S t) M43 x0 x2)) else (fb_X1_isLaid_73 S (fb_X1_isLaid_26 S t) M x0 x2)))))
theorem b_X1_isLaid_26 {M' : mMm} (X : mCx D n0 P p m c cX1_isLaid 3 s args yX1_isLaid.cls meth none) : ∀ t : Nat, ∀ (M : mMm) (x0 : Nat) (x2 : Int32) (H : Heap) (locs : List Loc) (ls : Array Slot), mHp D n0 S M n s H locs → lv_has ls 3 [(0, .ref x0), (2, .int x2)] → fb_X1_isLaid_26 S t M x0 x2 = some M' → W p l e Rm_X1_isLaid s m args below meth c H locs 0 0 (MQ below (mQ D n0 none S M' n) args s 0 0 (mA n0)) (F0 m 26 ls []) := by
  have hx := X.1.1
  have hb := X.1.2.1
  have hown := X.1.2.2.2.1
  have hts := X.1.2.2.2.2
  intro t
  induction t with
  | zero =>
    intro M x0 x2 H locs ls hp hl hF
    have hF : none = some M' := hF
    cases hF
  | succ t ih =>
    intro M x0 x2 H locs ls hp hl hF
    rw [fb_X1_isLaid_26] at hF
    refine lv_iload_n hx hb dX1_isLaid_26 rfl (lv_at hl 1 rfl) ?_
    refine lv_aload_n hx hb dX1_isLaid_27 rfl (lv_at hl 0 rfl) ?_
    obtain ⟨v14, e15, hF⟩ := ob_s hF
    refine m_getI X hp e15 kX1 (Nat.le_of_ble_eq_true rfl) q395 dX1_isLaid_28 ?_
    refine lv_icmp_ge (tgt := 79) hx hb dX1_isLaid_31 (by decide) (fun c16 => ?_) (fun c16 => ?_)
    · have hF := if_p c16 hF
      cases hF
      exact m_vret X hp dX1_isLaid_79
    · have hF := if_n c16 hF
      refine lv_aload_n hx hb dX1_isLaid_34 rfl (lv_at hl 0 rfl) ?_
      obtain ⟨v17, e18, hF⟩ := ob_s hF
      refine m_getR X hp e18 kX1 (Nat.le_of_ble_eq_true rfl) q377 dX1_isLaid_35 ?_
      refine lv_iload_n hx hb dX1_isLaid_38 rfl (lv_at hl 1 rfl) ?_
      obtain ⟨v19, e20, hF⟩ := ob_s hF
      refine m_aaR 104 X hp e20 rfl (by decide) rfl dX1_isLaid_39 ?_
      obtain ⟨g21, hF⟩ := gd_s hF
      obtain ⟨v23, e22, hF⟩ := ob_s hF
      refine m_callV (As := []) (rest := []) X hp (w_X4_isIn e22) q931 q932 q933 q139 q934 0 rfl ds_X4_isIn ⟨Nat.le_of_ble_eq_true rfl, Nat.le_of_ble_eq_true rfl⟩ 5 (T := TX4) (N := 11) rfl (by decide) g21 hl.1 rfl (Nat.le_of_ble_eq_true rfl) dX1_isLaid_40 ⟨Nat.le_refl 0, Nat.le_refl 0⟩ (fun H locs hp => ?_)
      refine lv_if_eq (tgt := 73) hx hb dX1_isLaid_43 (by decide) (fun c24 => ?_) (fun c24 => ?_)
      · have hF := if_p c24 hF
        exact b_X1_isLaid_73 X _ ih _ _ _ _ _ _ hp (lv_sub hl [0, 1] rfl) hF
      · have hF := if_n c24 hF
        refine lv_aload_n hx hb dX1_isLaid_46 rfl (lv_at hl 0 rfl) ?_
        obtain ⟨v25, e26, hF⟩ := ob_s hF
        refine m_getR X hp e26 kX1 (Nat.le_of_ble_eq_true rfl) q375 dX1_isLaid_47 ?_
        refine lv_aload_n hx hb dX1_isLaid_50 rfl (lv_at hl 0 rfl) ?_
        obtain ⟨v27, e28, hF⟩ := ob_s hF
        refine m_getR X hp e28 kX1 (Nat.le_of_ble_eq_true rfl) q377 dX1_isLaid_51 ?_
        refine lv_iload_n hx hb dX1_isLaid_54 rfl (lv_at hl 1 rfl) ?_
        obtain ⟨v29, e30, hF⟩ := ob_s hF
        refine m_aaR 104 X hp e30 rfl (by decide) rfl dX1_isLaid_55 ?_
        obtain ⟨v31, e32, hF⟩ := ob_s hF
        refine m_getIN X hp e32 kX4 (Nat.le_of_ble_eq_true rfl) q255 dX1_isLaid_56 ?_
        obtain ⟨v33, e34, hF⟩ := ob_s hF
        refine m_iaI X hp e34 dX1_isLaid_59 ?_
        refine lv_iconst (v := 1) hx hb dX1_isLaid_60 (by decide) ?_
        refine lv_icmp_ne (tgt := 73) hx hb dX1_isLaid_61 (by decide) (fun c35 => ?_) (fun c35 => ?_)
        · have hF := if_n c35 hF
          exact b_X1_isLaid_73 X _ ih _ _ _ _ _ _ hp (lv_sub hl [0, 1] rfl) hF
        · have hF := if_p c35 hF
          refine lv_aload_n hx hb dX1_isLaid_64 rfl (lv_at hl 0 rfl) ?_
          obtain ⟨v36, e37, hF⟩ := ob_s hF
          refine m_getR X hp e37 kX1 (Nat.le_of_ble_eq_true rfl) q377 dX1_isLaid_65 ?_
          refine lv_iload_n hx hb dX1_isLaid_68 rfl (lv_at hl 1 rfl) ?_
          obtain ⟨v38, e39, hF⟩ := ob_s hF
          refine m_aaR 104 X hp e39 rfl (by decide) rfl dX1_isLaid_69 ?_
          obtain ⟨g40, hF⟩ := gd_s hF
          obtain ⟨M43, e41, hF⟩ := ob_s hF
          refine m_callV (As := []) (rest := []) X hp (w_X4_goes e41) q305 q306 q307 q139 q308 0 rfl ds_X4_goes ⟨Nat.le_of_ble_eq_true rfl, Nat.le_of_ble_eq_true rfl⟩ 5 (T := TX4) (N := 11) rfl (by decide) g40 hl.1 rfl (Nat.le_of_ble_eq_true rfl) dX1_isLaid_70 ⟨Nat.le_refl 0, Nat.le_refl 0⟩ (fun H locs hp => ?_)
          exact b_X1_isLaid_73 X _ ih _ _ _ _ _ _ hp (lv_sub hl [0, 1] rfl) hF
def fb_X1_isLaid_2 (S : mSh) : Nat → mMm → Nat → Nat → Int32 → Option mMm
  | 0, _, _, _, _ => none
  | t + 1, M, x0, x1, x2 => (if (144 : Int32) ≤ x2 then nm ((0 : Int32)) fun v4 => (fb_X1_isLaid_26 S FU M x0 v4) else ob (rR S M x0 2 0) fun v6 => ob (aI S M x1 100 x2) fun v8 => ob (wA S M v6 100 x2 (.int v8)) fun M10 => nm (x2 + (1 : Int32)) fun v12 => (fb_X1_isLaid_2 S t M10 x0 x1 v12))
theorem b_X1_isLaid_2 {M' : mMm} (X : mCx D n0 P p m c cX1_isLaid 3 s args yX1_isLaid.cls meth none) : ∀ t : Nat, ∀ (M : mMm) (x0 : Nat) (x1 : Nat) (x2 : Int32) (H : Heap) (locs : List Loc) (ls : Array Slot), mHp D n0 S M n s H locs → lv_has ls 3 [(0, .ref x0), (1, .ref x1), (2, .int x2)] → fb_X1_isLaid_2 S t M x0 x1 x2 = some M' → W p l e Rm_X1_isLaid s m args below meth c H locs 0 0 (MQ below (mQ D n0 none S M' n) args s 0 0 (mA n0)) (F0 m 2 ls []) := by
  have hx := X.1.1
  have hb := X.1.2.1
  have hown := X.1.2.2.2.1
  have hts := X.1.2.2.2.2
  intro t
  induction t with
  | zero =>
    intro M x0 x1 x2 H locs ls hp hl hF
    have hF : none = some M' := hF
    cases hF
  | succ t ih =>
    intro M x0 x1 x2 H locs ls hp hl hF
    rw [fb_X1_isLaid_2] at hF
    refine lv_iload_n hx hb dX1_isLaid_2 rfl (lv_at hl 2 rfl) ?_
    refine lv_sipush (v := 144) hx hb dX1_isLaid_3 (by decide) ?_
    refine lv_icmp_ge (tgt := 24) hx hb dX1_isLaid_6 (by decide) (fun c3 => ?_) (fun c3 => ?_)
    · have hF := if_p c3 hF
      refine lv_iconst (v := 0) hx hb dX1_isLaid_24 (by decide) ?_
      refine lv_topi (fun v4 ev5 => ?_)
      have hF := nm_s hF ev5
      refine lv_istore_n (lv' := [(2, .int v4), (0, .ref x0), (1, .ref x1)]) hx hb dX1_isLaid_25 rfl hl (by decide) rfl (fun ls hl => ?_)
      exact b_X1_isLaid_26 X _ _ _ _ _ _ _ hp (lv_sub hl [1, 0] rfl) hF
    · have hF := if_n c3 hF
      refine lv_aload_n hx hb dX1_isLaid_9 rfl (lv_at hl 0 rfl) ?_
      obtain ⟨v6, e7, hF⟩ := ob_s hF
      refine m_getR X hp e7 kX1 (Nat.le_of_ble_eq_true rfl) q375 dX1_isLaid_10 ?_
      refine lv_iload_n hx hb dX1_isLaid_13 rfl (lv_at hl 2 rfl) ?_
      refine lv_aload_n hx hb dX1_isLaid_14 rfl (lv_at hl 1 rfl) ?_
      refine lv_iload_n hx hb dX1_isLaid_15 rfl (lv_at hl 2 rfl) ?_
      obtain ⟨v8, e9, hF⟩ := ob_s hF
      refine m_iaI X hp e9 dX1_isLaid_16 ?_
      obtain ⟨M10, e11, hF⟩ := ob_s hF
      refine m_iaW X hp e11 dX1_isLaid_17 (fun H locs hp => ?_)
      obtain ⟨v12, ev13⟩ : ∃ y : Int32, y = x2 + (1 : Int32) := ⟨_, rfl⟩
      have hF := nm_s hF ev13
      refine lv_iinc (v := v12) (lv' := [(2, .int v12), (0, .ref x0), (1, .ref x1)]) hx hb dX1_isLaid_18 hl (k := 2) rfl (by rw [ev13]; rfl) (by decide) rfl (fun ls hl => ?_)
      refine lv_goto (tgt := 2) hx hb dX1_isLaid_21 (by decide) ?_
      exact ih _ _ _ _ _ _ _ hp (lv_sub hl [1, 2, 0] rfl) hF
def f_X1_isLaid (S : mSh) (M : mMm) (x0 : Nat) (x1 : Nat) : Option mMm := nm ((0 : Int32)) fun v1 => (fb_X1_isLaid_2 S FU M x0 x1 v1)
theorem w_X1_isLaid {x0 : Nat} {x1 : Nat} {M' : mMm} (hF : f_X1_isLaid S M x0 x1 = some M') : mCt l D n0 P yX1_isLaid cX1_isLaid 3 none 2 40 0 0 [.ref x0, .ref x1] S M n none S M' n := by
  refine m_ofW (by decide) (Nat.le_of_ble_eq_true rfl) (fun p e s m below meth c X hnm hp ls hl => ?_)
  have hx := X.1.1
  have hb := X.1.2.1
  have hown := X.1.2.2.2.1
  have hts := X.1.2.2.2.2
  have hl : lv_has ls 3 [(0, .ref x0), (1, .ref x1)] := hl
  unfold f_X1_isLaid at hF
  refine lv_iconst (v := 0) hx hb dX1_isLaid_0 (by decide) ?_
  refine lv_topi (fun v1 ev2 => ?_)
  have hF := nm_s hF ev2
  refine lv_istore_n (lv' := [(2, .int v1), (0, .ref x0), (1, .ref x1)]) hx hb dX1_isLaid_1 rfl hl (by decide) rfl (fun ls hl => ?_)
  exact b_X1_isLaid_2 X _ _ _ _ _ _ _ _ hp (lv_sub hl [1, 2, 0] rfl) hF
end
section
variable {l : Launch} {D : va_G} {n0 : Nat} {P : mP} {S : mSh} {M : mMm} {n : Nat} {p : Program} {e : Env} {s : State} {m : MethodId} {args : Array Value} {below : List Frame} {meth : Method} {c : Code}
abbrev Rm_X14_init : Room := { frames := 1, cells := 0, slots := 0, locals := 60 }
def f_X14_init (S : mSh) (M : mMm) (x0 : Nat) (x1 : Int32) (x2 : Int32) : Option mMm := ob (wF S M x0 14 0 (.int x1)) fun M1 => ob (wF S M1 x0 14 1 (.int x2)) fun M3 => some M3
theorem w_X14_init {x0 : Nat} {x1 : Int32} {x2 : Int32} {M' : mMm} (hF : f_X14_init S M x0 x1 x2 = some M') : mCt l D n0 P yX14_init cX14_init 3 none 1 60 0 0 [.ref x0, .int x1, .int x2] S M n none S M' n := by
  refine m_ofW (by decide) (Nat.le_of_ble_eq_true rfl) (fun p e s m below meth c X hnm hp ls hl => ?_)
  have hx := X.1.1
  have hb := X.1.2.1
  have hown := X.1.2.2.2.1
  have hts := X.1.2.2.2.2
  have hl : lv_has ls 3 [(0, .ref x0), (1, .int x1), (2, .int x2)] := hl
  unfold f_X14_init at hF
  refine lv_aload_n hx hb dX14_init_0 rfl (lv_at hl 0 rfl) ?_
  refine m_objInit X q971 q168 q169 hl.1 (Nat.le_of_ble_eq_true rfl) (Nat.le_of_ble_eq_true rfl) dX14_init_1 ?_
  refine lv_aload_n hx hb dX14_init_4 rfl (lv_at hl 0 rfl) ?_
  refine lv_iload_n hx hb dX14_init_5 rfl (lv_at hl 1 rfl) ?_
  obtain ⟨M1, e2, hF⟩ := ob_s hF
  refine m_putWF X hp e2 kX14 (Nat.le_of_ble_eq_true rfl) q972 rfl hnm rfl rfl rfl dX14_init_6 (fun H locs hp => ?_)
  refine lv_aload_n hx hb dX14_init_9 rfl (lv_at hl 0 rfl) ?_
  refine lv_iload_n hx hb dX14_init_10 rfl (lv_at hl 2 rfl) ?_
  obtain ⟨M3, e4, hF⟩ := ob_s hF
  refine m_putWF X hp e4 kX14 (Nat.le_of_ble_eq_true rfl) q974 rfl hnm rfl rfl rfl dX14_init_11 (fun H locs hp => ?_)
  cases hF
  exact m_vret X hp dX14_init_14
end
section
variable {l : Launch} {D : va_G} {n0 : Nat} {P : mP} {S : mSh} {M : mMm} {n : Nat} {p : Program} {e : Env} {s : State} {m : MethodId} {args : Array Value} {below : List Frame} {meth : Method} {c : Code}
abbrev Rm_X0_round : Room := { frames := 1, cells := 0, slots := 0, locals := 22 }
def fb_X0_round_190 (S : mSh) (k61 : mMm → Nat → Int32 → Int32 → Int32 → Int32 → Int32 → Int32 → Option (Int32 × mMm)) (M : mMm) (x0 : Nat) (x1 : Int32) (x2 : Int32) (x3 : Int32) (x4 : Int32) (x5 : Int32) (x6 : Int32) : Option (Int32 × mMm) := nm (x6 + (1 : Int32)) fun v84 => (k61 M x0 x1 x2 x3 x4 x5 v84)
theorem b_X0_round_190 {r : Int32} {M' : mMm} (X : mCx D n0 P p m c cX0_round 11 s args yX0_round.cls meth (some .int)) (k61 : mMm → Nat → Int32 → Int32 → Int32 → Int32 → Int32 → Int32 → Option (Int32 × mMm)) (hk61 : ∀ (M : mMm) (x0 : Nat) (x1 : Int32) (x2 : Int32) (x3 : Int32) (x4 : Int32) (x5 : Int32) (x6 : Int32) (H : Heap) (locs : List Loc) (ls : Array Slot), mHp D n0 S M n s H locs → lv_has ls 11 [(0, .ref x0), (1, .int x1), (2, .int x2), (3, .int x3), (4, .int x4), (5, .int x5), (6, .int x6)] → k61 M x0 x1 x2 x3 x4 x5 x6 = some (r, M') → W p l e Rm_X0_round s m args below meth c H locs 0 0 (MQ below (mQ D n0 (some (.int r)) S M' n) args s 0 0 (mA n0)) (F0 m 61 ls [])) : ∀ (M : mMm) (x0 : Nat) (x1 : Int32) (x2 : Int32) (x3 : Int32) (x4 : Int32) (x5 : Int32) (x6 : Int32) (H : Heap) (locs : List Loc) (ls : Array Slot), mHp D n0 S M n s H locs → lv_has ls 11 [(0, .ref x0), (1, .int x1), (2, .int x2), (3, .int x3), (4, .int x4), (5, .int x5), (6, .int x6)] → fb_X0_round_190 S k61 M x0 x1 x2 x3 x4 x5 x6 = some (r, M') → W p l e Rm_X0_round s m args below meth c H locs 0 0 (MQ below (mQ D n0 (some (.int r)) S M' n) args s 0 0 (mA n0)) (F0 m 190 ls []) := by
  have hx := X.1.1
  have hb := X.1.2.1
  have hown := X.1.2.2.2.1
  have hts := X.1.2.2.2.2
  intro M x0 x1 x2 x3 x4 x5 x6 H locs ls hp hl hF
  unfold fb_X0_round_190 at hF
  obtain ⟨v84, ev85⟩ : ∃ y : Int32, y = x6 + (1 : Int32) := ⟨_, rfl⟩
  have hF := nm_s hF ev85
  refine lv_iinc (v := v84) (lv' := [(6, .int v84), (0, .ref x0), (1, .int x1), (2, .int x2), (3, .int x3), (4, .int x4), (5, .int x5)]) hx hb dX0_round_190 hl (k := 6) rfl (by rw [ev85]; rfl) (by decide) rfl (fun ls hl => ?_)
  refine lv_goto (tgt := 61) hx hb dX0_round_193 (by decide) ?_
  exact hk61 _ _ _ _ _ _ _ _ _ _ _ hp (lv_sub hl [1, 2, 3, 4, 5, 6, 0] rfl) hF
def fb_X0_round_112 (S : mSh) (k61 : mMm → Nat → Int32 → Int32 → Int32 → Int32 → Int32 → Int32 → Option (Int32 × mMm)) (M : mMm) (x0 : Nat) (x1 : Int32) (x3 : Int32) (x4 : Int32) (x5 : Int32) (x6 : Int32) (x7 : Int32) (y0 : Int32) (y1 : Int32) : Option (Int32 × mMm) := nm ((y1 + y0)) fun v57 => (if x7 = 0 then ob (f_J4_floorMod v57 (4 : Int32)) fun v61 => ob (f_X0_up v61) fun v63 => ob (f_X0_right v61) fun v65 => nm ((x5 + ((x3 * v63) - (x4 * v65)))) fun v66 => ob (f_X0_right v61) fun v69 => nm ((x3 + v69)) fun v70 => ob (f_X0_up v61) fun v73 => nm ((x4 + v73)) fun v74 => ob (rR S M x0 1 15) fun v76 => nm (((((v74 + (24 : Int32)) * (49 : Int32)) + v70) + (24 : Int32))) fun v78 => ob (aI S M v76 100 v78) fun v80 => ob (wA S M v76 100 v78 (.int (v80 + (1 : Int32)))) fun M82 => (fb_X0_round_190 S k61 M82 x0 x1 v57 v70 v74 v66 x6) else (fb_X0_round_190 S k61 M x0 x1 v57 x3 x4 x5 x6))
theorem b_X0_round_112 {r : Int32} {M' : mMm} (X : mCx D n0 P p m c cX0_round 11 s args yX0_round.cls meth (some .int)) (k61 : mMm → Nat → Int32 → Int32 → Int32 → Int32 → Int32 → Int32 → Option (Int32 × mMm)) (hk61 : ∀ (M : mMm) (x0 : Nat) (x1 : Int32) (x2 : Int32) (x3 : Int32) (x4 : Int32) (x5 : Int32) (x6 : Int32) (H : Heap) (locs : List Loc) (ls : Array Slot), mHp D n0 S M n s H locs → lv_has ls 11 [(0, .ref x0), (1, .int x1), (2, .int x2), (3, .int x3), (4, .int x4), (5, .int x5), (6, .int x6)] → k61 M x0 x1 x2 x3 x4 x5 x6 = some (r, M') → W p l e Rm_X0_round s m args below meth c H locs 0 0 (MQ below (mQ D n0 (some (.int r)) S M' n) args s 0 0 (mA n0)) (F0 m 61 ls [])) : ∀ (M : mMm) (x0 : Nat) (x1 : Int32) (x3 : Int32) (x4 : Int32) (x5 : Int32) (x6 : Int32) (x7 : Int32) (y0 : Int32) (y1 : Int32) (H : Heap) (locs : List Loc) (ls : Array Slot), mHp D n0 S M n s H locs → lv_has ls 11 [(0, .ref x0), (1, .int x1), (3, .int x3), (4, .int x4), (5, .int x5), (6, .int x6), (7, .int x7)] → fb_X0_round_112 S k61 M x0 x1 x3 x4 x5 x6 x7 y0 y1 = some (r, M') → W p l e Rm_X0_round s m args below meth c H locs 0 0 (MQ below (mQ D n0 (some (.int r)) S M' n) args s 0 0 (mA n0)) (F0 m 112 ls [.int y0, .int y1]) := by
  have hx := X.1.1
  have hb := X.1.2.1
  have hown := X.1.2.2.2.1
  have hts := X.1.2.2.2.2
  intro M x0 x1 x3 x4 x5 x6 x7 y0 y1 H locs ls hp hl hF
  unfold fb_X0_round_112 at hF
  refine lv_iadd hx hb dX0_round_112 ?_
  refine lv_topi (fun v57 ev58 => ?_)
  have hF := nm_s hF ev58
  refine lv_istore_n (lv' := [(2, .int v57), (0, .ref x0), (1, .int x1), (3, .int x3), (4, .int x4), (5, .int x5), (6, .int x6), (7, .int x7)]) hx hb dX0_round_113 rfl hl (by decide) rfl (fun ls hl => ?_)
  refine lv_iload hx hb dX0_round_114 (lv_at hl 7 rfl) ?_
  refine lv_if_eq (tgt := 122) hx hb dX0_round_116 (by decide) (fun c59 => ?_) (fun c59 => ?_)
  · have hF := if_p c59 hF
    refine lv_iload_n hx hb dX0_round_122 rfl (lv_at hl 0 rfl) ?_
    refine lv_iconst (v := 4) hx hb dX0_round_123 (by decide) ?_
    obtain ⟨v61, e60, hF⟩ := ob_s hF
    refine m_callS (As := [.int v57, .int (4 : Int32)]) (rest := []) X hp (w_J4_floorMod e60) q1320 q1321 q141 q1322 2 rfl ds_J4_floorMod ⟨Nat.le_of_ble_eq_true rfl, Nat.le_of_ble_eq_true rfl⟩ hl.1 rfl (Nat.le_of_ble_eq_true rfl) dX0_round_124 ⟨Nat.le_refl 0, Nat.le_refl 0⟩ (fun H locs hp => ?_)
    refine lv_istore (lv' := [(8, .int v61), (2, .int v57), (0, .ref x0), (1, .int x1), (3, .int x3), (4, .int x4), (5, .int x5), (6, .int x6), (7, .int x7)]) hx hb dX0_round_127 hl (by decide) rfl (fun ls hl => ?_)
    refine lv_iload hx hb dX0_round_129 (lv_at hl 6 rfl) ?_
    refine lv_iload_n hx hb dX0_round_131 rfl (lv_at hl 4 rfl) ?_
    refine lv_iload hx hb dX0_round_132 (lv_at hl 0 rfl) ?_
    obtain ⟨v63, e62, hF⟩ := ob_s hF
    refine m_callS (As := [.int v61]) (rest := [.int x3, .int x5]) X hp (w_X0_up e62) q1108 q1109 q132 q1110 1 rfl ds_X0_up ⟨Nat.le_of_ble_eq_true rfl, Nat.le_of_ble_eq_true rfl⟩ hl.1 rfl (Nat.le_of_ble_eq_true rfl) dX0_round_134 ⟨Nat.le_refl 0, Nat.le_refl 0⟩ (fun H locs hp => ?_)
    refine lv_imul hx hb dX0_round_137 ?_
    refine lv_iload hx hb dX0_round_138 (lv_at hl 5 rfl) ?_
    refine lv_iload hx hb dX0_round_140 (lv_at hl 0 rfl) ?_
    obtain ⟨v65, e64, hF⟩ := ob_s hF
    refine m_callS (As := [.int v61]) (rest := [.int x4, .int (x3 * v63), .int x5]) X hp (w_X0_right e64) q1105 q1106 q132 q1107 1 rfl ds_X0_right ⟨Nat.le_of_ble_eq_true rfl, Nat.le_of_ble_eq_true rfl⟩ hl.1 rfl (Nat.le_of_ble_eq_true rfl) dX0_round_142 ⟨Nat.le_refl 0, Nat.le_refl 0⟩ (fun H locs hp => ?_)
    refine lv_imul hx hb dX0_round_145 ?_
    refine lv_isub hx hb dX0_round_146 ?_
    refine lv_iadd hx hb dX0_round_147 ?_
    refine lv_topi (fun v66 ev67 => ?_)
    have hF := nm_s hF ev67
    refine lv_istore (lv' := [(5, .int v66), (8, .int v61), (2, .int v57), (0, .ref x0), (1, .int x1), (3, .int x3), (4, .int x4), (6, .int x6), (7, .int x7)]) hx hb dX0_round_148 hl (by decide) rfl (fun ls hl => ?_)
    refine lv_iload_n hx hb dX0_round_150 rfl (lv_at hl 5 rfl) ?_
    refine lv_iload hx hb dX0_round_151 (lv_at hl 1 rfl) ?_
    obtain ⟨v69, e68, hF⟩ := ob_s hF
    refine m_callS (As := [.int v61]) (rest := [.int x3]) X hp (w_X0_right e68) q1105 q1106 q132 q1107 1 rfl ds_X0_right ⟨Nat.le_of_ble_eq_true rfl, Nat.le_of_ble_eq_true rfl⟩ hl.1 rfl (Nat.le_of_ble_eq_true rfl) dX0_round_153 ⟨Nat.le_refl 0, Nat.le_refl 0⟩ (fun H locs hp => ?_)
    refine lv_iadd hx hb dX0_round_156 ?_
    refine lv_topi (fun v70 ev71 => ?_)
    have hF := nm_s hF ev71
    refine lv_istore_n (lv' := [(3, .int v70), (5, .int v66), (8, .int v61), (2, .int v57), (0, .ref x0), (1, .int x1), (4, .int x4), (6, .int x6), (7, .int x7)]) hx hb dX0_round_157 rfl hl (by decide) rfl (fun ls hl => ?_)
    refine lv_iload hx hb dX0_round_158 (lv_at hl 6 rfl) ?_
    refine lv_iload hx hb dX0_round_160 (lv_at hl 2 rfl) ?_
    obtain ⟨v73, e72, hF⟩ := ob_s hF
    refine m_callS (As := [.int v61]) (rest := [.int x4]) X hp (w_X0_up e72) q1108 q1109 q132 q1110 1 rfl ds_X0_up ⟨Nat.le_of_ble_eq_true rfl, Nat.le_of_ble_eq_true rfl⟩ hl.1 rfl (Nat.le_of_ble_eq_true rfl) dX0_round_162 ⟨Nat.le_refl 0, Nat.le_refl 0⟩ (fun H locs hp => ?_)
    refine lv_iadd hx hb dX0_round_165 ?_
    refine lv_topi (fun v74 ev75 => ?_)
    have hF := nm_s hF ev75
    refine lv_istore (lv' := [(4, .int v74), (3, .int v70), (5, .int v66), (8, .int v61), (2, .int v57), (0, .ref x0), (1, .int x1), (6, .int x6), (7, .int x7)]) hx hb dX0_round_166 hl (by decide) rfl (fun ls hl => ?_)
    refine lv_aload_n hx hb dX0_round_168 rfl (lv_at hl 5 rfl) ?_
    obtain ⟨v76, e77, hF⟩ := ob_s hF
    refine m_getR X hp e77 kX0 (Nat.le_of_ble_eq_true rfl) q475 dX0_round_169 ?_
    refine lv_iload hx hb dX0_round_172 (lv_at hl 0 rfl) ?_
    refine lv_bipush (v := 24) hx hb dX0_round_174 (by decide) ?_
    refine lv_iadd hx hb dX0_round_176 ?_
    refine lv_bipush (v := 49) hx hb dX0_round_177 (by decide) ?_
    refine lv_imul hx hb dX0_round_179 ?_
    refine lv_iload_n hx hb dX0_round_180 rfl (lv_at hl 1 rfl) ?_
    refine lv_iadd hx hb dX0_round_181 ?_
    refine lv_bipush (v := 24) hx hb dX0_round_182 (by decide) ?_
    refine lv_iadd hx hb dX0_round_184 ?_
    refine lv_topi (fun v78 ev79 => ?_)
    have hF := nm_s hF ev79
    refine lv_dup2_11 hx hb dX0_round_185 rfl rfl ?_
    obtain ⟨v80, e81, hF⟩ := ob_s hF
    refine m_iaI X hp e81 dX0_round_186 ?_
    refine lv_iconst (v := 1) hx hb dX0_round_187 (by decide) ?_
    refine lv_iadd hx hb dX0_round_188 ?_
    obtain ⟨M82, e83, hF⟩ := ob_s hF
    refine m_iaW X hp e83 dX0_round_189 (fun H locs hp => ?_)
    exact b_X0_round_190 X _ hk61 _ _ _ _ _ _ _ _ _ _ _ hp (lv_sub hl [5, 6, 4, 1, 0, 2, 7] rfl) hF
  · have hF := if_n c59 hF
    refine lv_goto (tgt := 190) hx hb dX0_round_119 (by decide) ?_
    exact b_X0_round_190 X _ hk61 _ _ _ _ _ _ _ _ _ _ _ hp (lv_sub hl [1, 2, 0, 3, 4, 5, 6] rfl) hF
def fb_X0_round_240 (S : mSh) (k213 : mMm → Int32 → Int32 → Int32 → Int32 → Int32 → Int32 → Nat → Int32 → Int32 → Option (Int32 × mMm)) (M : mMm) (x1 : Int32) (x2 : Int32) (x3 : Int32) (x4 : Int32) (x5 : Int32) (x7 : Nat) (x8 : Int32) (x9 : Int32) (y0 : Int32) (y1 : Int32) : Option (Int32 × mMm) := nm ((y1 + y0)) fun v102 => nm (x9 + (1 : Int32)) fun v104 => (k213 M x1 x2 x3 x4 x5 v102 x7 x8 v104)
theorem b_X0_round_240 {r : Int32} {M' : mMm} (X : mCx D n0 P p m c cX0_round 11 s args yX0_round.cls meth (some .int)) (k213 : mMm → Int32 → Int32 → Int32 → Int32 → Int32 → Int32 → Nat → Int32 → Int32 → Option (Int32 × mMm)) (hk213 : ∀ (M : mMm) (x1 : Int32) (x2 : Int32) (x3 : Int32) (x4 : Int32) (x5 : Int32) (x6 : Int32) (x7 : Nat) (x8 : Int32) (x9 : Int32) (H : Heap) (locs : List Loc) (ls : Array Slot), mHp D n0 S M n s H locs → lv_has ls 11 [(1, .int x1), (2, .int x2), (3, .int x3), (4, .int x4), (5, .int x5), (6, .int x6), (7, .ref x7), (8, .int x8), (9, .int x9)] → k213 M x1 x2 x3 x4 x5 x6 x7 x8 x9 = some (r, M') → W p l e Rm_X0_round s m args below meth c H locs 0 0 (MQ below (mQ D n0 (some (.int r)) S M' n) args s 0 0 (mA n0)) (F0 m 213 ls [])) : ∀ (M : mMm) (x1 : Int32) (x2 : Int32) (x3 : Int32) (x4 : Int32) (x5 : Int32) (x7 : Nat) (x8 : Int32) (x9 : Int32) (y0 : Int32) (y1 : Int32) (H : Heap) (locs : List Loc) (ls : Array Slot), mHp D n0 S M n s H locs → lv_has ls 11 [(1, .int x1), (2, .int x2), (3, .int x3), (4, .int x4), (5, .int x5), (7, .ref x7), (8, .int x8), (9, .int x9)] → fb_X0_round_240 S k213 M x1 x2 x3 x4 x5 x7 x8 x9 y0 y1 = some (r, M') → W p l e Rm_X0_round s m args below meth c H locs 0 0 (MQ below (mQ D n0 (some (.int r)) S M' n) args s 0 0 (mA n0)) (F0 m 240 ls [.int y0, .int y1]) := by
  have hx := X.1.1
  have hb := X.1.2.1
  have hown := X.1.2.2.2.1
  have hts := X.1.2.2.2.2
  intro M x1 x2 x3 x4 x5 x7 x8 x9 y0 y1 H locs ls hp hl hF
  unfold fb_X0_round_240 at hF
  refine lv_iadd hx hb dX0_round_240 ?_
  refine lv_topi (fun v102 ev103 => ?_)
  have hF := nm_s hF ev103
  refine lv_istore (lv' := [(6, .int v102), (1, .int x1), (2, .int x2), (3, .int x3), (4, .int x4), (5, .int x5), (7, .ref x7), (8, .int x8), (9, .int x9)]) hx hb dX0_round_241 hl (by decide) rfl (fun ls hl => ?_)
  obtain ⟨v104, ev105⟩ : ∃ y : Int32, y = x9 + (1 : Int32) := ⟨_, rfl⟩
  have hF := nm_s hF ev105
  refine lv_iinc (v := v104) (lv' := [(9, .int v104), (6, .int v102), (1, .int x1), (2, .int x2), (3, .int x3), (4, .int x4), (5, .int x5), (7, .ref x7), (8, .int x8)]) hx hb dX0_round_243 hl (k := 8) rfl (by rw [ev105]; rfl) (by decide) rfl (fun ls hl => ?_)
  refine lv_goto (tgt := 213) hx hb dX0_round_246 (by decide) ?_
  exact hk213 _ _ _ _ _ _ _ _ _ _ _ _ _ hp (lv_sub hl [2, 3, 4, 5, 6, 1, 7, 8, 0] rfl) hF
def fb_X0_round_213 (S : mSh) : Nat → mMm → Int32 → Int32 → Int32 → Int32 → Int32 → Int32 → Nat → Int32 → Int32 → Option (Int32 × mMm)
  | 0, _, _, _, _, _, _, _, _, _, _ => none
  | t + 1, M, x1, x2, x3, x4, x5, x6, x7, x8, x9 => (if x8 ≤ x9 then ob (f_J4_abs x3) fun v88 => ob (f_J4_abs x4) fun v90 => nm ((v88 + v90)) fun v91 => (if x1 = 0 then some (x2, M) else (if x1 = (1 : Int32) then some (v91, M) else (if x1 = (2 : Int32) then some (x6, M) else (if v91 = 0 then ob (f_J4_abs x5) fun v98 => some (v98, M) else some ((-1 : Int32), M))))) else ob (aI S M x7 100 x9) fun v99 => (if v99 ≤ (1 : Int32) then (fb_X0_round_240 S (fb_X0_round_213 S t) M x1 x2 x3 x4 x5 x7 x8 x9 (0 : Int32) x6) else (fb_X0_round_240 S (fb_X0_round_213 S t) M x1 x2 x3 x4 x5 x7 x8 x9 (1 : Int32) x6)))
theorem b_X0_round_213 {r : Int32} {M' : mMm} (X : mCx D n0 P p m c cX0_round 11 s args yX0_round.cls meth (some .int)) : ∀ t : Nat, ∀ (M : mMm) (x1 : Int32) (x2 : Int32) (x3 : Int32) (x4 : Int32) (x5 : Int32) (x6 : Int32) (x7 : Nat) (x8 : Int32) (x9 : Int32) (H : Heap) (locs : List Loc) (ls : Array Slot), mHp D n0 S M n s H locs → lv_has ls 11 [(1, .int x1), (2, .int x2), (3, .int x3), (4, .int x4), (5, .int x5), (6, .int x6), (7, .ref x7), (8, .int x8), (9, .int x9)] → fb_X0_round_213 S t M x1 x2 x3 x4 x5 x6 x7 x8 x9 = some (r, M') → W p l e Rm_X0_round s m args below meth c H locs 0 0 (MQ below (mQ D n0 (some (.int r)) S M' n) args s 0 0 (mA n0)) (F0 m 213 ls []) := by
  have hx := X.1.1
  have hb := X.1.2.1
  have hown := X.1.2.2.2.1
  have hts := X.1.2.2.2.2
  intro t
  induction t with
  | zero =>
    intro M x1 x2 x3 x4 x5 x6 x7 x8 x9 H locs ls hp hl hF
    have hF : none = some (r, M') := hF
    cases hF
  | succ t ih =>
    intro M x1 x2 x3 x4 x5 x6 x7 x8 x9 H locs ls hp hl hF
    rw [fb_X0_round_213] at hF
    refine lv_iload hx hb dX0_round_213 (lv_at hl 8 rfl) ?_
    refine lv_iload hx hb dX0_round_215 (lv_at hl 7 rfl) ?_
    refine lv_icmp_ge (tgt := 249) hx hb dX0_round_217 (by decide) (fun c86 => ?_) (fun c86 => ?_)
    · have hF := if_p c86 hF
      refine lv_iload_n hx hb dX0_round_249 rfl (lv_at hl 2 rfl) ?_
      obtain ⟨v88, e87, hF⟩ := ob_s hF
      refine m_callS (As := [.int x3]) (rest := []) X hp (w_J4_abs e87) q1267 q1268 q141 q1269 1 rfl ds_J4_abs ⟨Nat.le_of_ble_eq_true rfl, Nat.le_of_ble_eq_true rfl⟩ hl.1 rfl (Nat.le_of_ble_eq_true rfl) dX0_round_250 ⟨Nat.le_refl 0, Nat.le_refl 0⟩ (fun H locs hp => ?_)
      refine lv_iload hx hb dX0_round_253 (lv_at hl 3 rfl) ?_
      obtain ⟨v90, e89, hF⟩ := ob_s hF
      refine m_callS (As := [.int x4]) (rest := [.int v88]) X hp (w_J4_abs e89) q1267 q1268 q141 q1269 1 rfl ds_J4_abs ⟨Nat.le_of_ble_eq_true rfl, Nat.le_of_ble_eq_true rfl⟩ hl.1 rfl (Nat.le_of_ble_eq_true rfl) dX0_round_255 ⟨Nat.le_refl 0, Nat.le_refl 0⟩ (fun H locs hp => ?_)
      refine lv_iadd hx hb dX0_round_258 ?_
      refine lv_topi (fun v91 ev92 => ?_)
      have hF := nm_s hF ev92
      refine lv_istore (lv' := [(7, .int v91), (1, .int x1), (2, .int x2), (3, .int x3), (4, .int x4), (5, .int x5), (6, .int x6), (8, .int x8), (9, .int x9)]) hx hb dX0_round_259 hl (by decide) rfl (fun ls hl => ?_)
      refine lv_iload_n hx hb dX0_round_261 rfl (lv_at hl 1 rfl) ?_
      refine lv_if_ne (tgt := 269) hx hb dX0_round_262 (by decide) (fun c93 => ?_) (fun c93 => ?_)
      · have hF := if_n c93 hF
        refine lv_iload_n hx hb dX0_round_269 rfl (lv_at hl 1 rfl) ?_
        refine lv_iconst (v := 1) hx hb dX0_round_270 (by decide) ?_
        refine lv_icmp_ne (tgt := 279) hx hb dX0_round_271 (by decide) (fun c94 => ?_) (fun c94 => ?_)
        · have hF := if_n c94 hF
          refine lv_iload_n hx hb dX0_round_279 rfl (lv_at hl 1 rfl) ?_
          refine lv_iconst (v := 2) hx hb dX0_round_280 (by decide) ?_
          refine lv_icmp_ne (tgt := 289) hx hb dX0_round_281 (by decide) (fun c95 => ?_) (fun c95 => ?_)
          · have hF := if_n c95 hF
            refine lv_iload hx hb dX0_round_289 (lv_at hl 0 rfl) ?_
            refine lv_if_ne (tgt := 302) hx hb dX0_round_291 (by decide) (fun c96 => ?_) (fun c96 => ?_)
            · have hF := if_n c96 hF
              refine lv_iconst (v := -1) hx hb dX0_round_302 (by decide) ?_
              cases hF
              exact m_iret X hp dX0_round_303
            · have hF := if_p c96 hF
              refine lv_iload hx hb dX0_round_294 (lv_at hl 5 rfl) ?_
              obtain ⟨v98, e97, hF⟩ := ob_s hF
              refine m_callS (As := [.int x5]) (rest := []) X hp (w_J4_abs e97) q1267 q1268 q141 q1269 1 rfl ds_J4_abs ⟨Nat.le_of_ble_eq_true rfl, Nat.le_of_ble_eq_true rfl⟩ hl.1 rfl (Nat.le_of_ble_eq_true rfl) dX0_round_296 ⟨Nat.le_refl 0, Nat.le_refl 0⟩ (fun H locs hp => ?_)
              refine lv_goto (tgt := 303) hx hb dX0_round_299 (by decide) ?_
              cases hF
              exact m_iret X hp dX0_round_303
          · have hF := if_p c95 hF
            refine lv_iload hx hb dX0_round_284 (lv_at hl 6 rfl) ?_
            refine lv_goto (tgt := 303) hx hb dX0_round_286 (by decide) ?_
            cases hF
            exact m_iret X hp dX0_round_303
        · have hF := if_p c94 hF
          refine lv_iload hx hb dX0_round_274 (lv_at hl 0 rfl) ?_
          refine lv_goto (tgt := 303) hx hb dX0_round_276 (by decide) ?_
          cases hF
          exact m_iret X hp dX0_round_303
      · have hF := if_p c93 hF
        refine lv_iload_n hx hb dX0_round_265 rfl (lv_at hl 2 rfl) ?_
        refine lv_goto (tgt := 303) hx hb dX0_round_266 (by decide) ?_
        cases hF
        exact m_iret X hp dX0_round_303
    · have hF := if_n c86 hF
      refine lv_aload hx hb dX0_round_220 (lv_at hl 6 rfl) ?_
      refine lv_iload hx hb dX0_round_222 (lv_at hl 8 rfl) ?_
      obtain ⟨v99, e100, hF⟩ := ob_s hF
      refine m_iaI X hp e100 dX0_round_224 ?_
      refine lv_istore (lv' := [(10, .int v99), (1, .int x1), (2, .int x2), (3, .int x3), (4, .int x4), (5, .int x5), (6, .int x6), (7, .ref x7), (8, .int x8), (9, .int x9)]) hx hb dX0_round_225 hl (by decide) rfl (fun ls hl => ?_)
      refine lv_iload hx hb dX0_round_227 (lv_at hl 6 rfl) ?_
      refine lv_iload hx hb dX0_round_229 (lv_at hl 0 rfl) ?_
      refine lv_iconst (v := 1) hx hb dX0_round_231 (by decide) ?_
      refine lv_icmp_le (tgt := 239) hx hb dX0_round_232 (by decide) (fun c101 => ?_) (fun c101 => ?_)
      · have hF := if_p c101 hF
        refine lv_iconst (v := 0) hx hb dX0_round_239 (by decide) ?_
        exact b_X0_round_240 X _ ih _ _ _ _ _ _ _ _ _ _ _ _ _ _ hp (lv_sub hl [1, 2, 3, 4, 5, 7, 8, 9] rfl) hF
      · have hF := if_n c101 hF
        refine lv_iconst (v := 1) hx hb dX0_round_235 (by decide) ?_
        refine lv_goto (tgt := 240) hx hb dX0_round_236 (by decide) ?_
        exact b_X0_round_240 X _ ih _ _ _ _ _ _ _ _ _ _ _ _ _ _ hp (lv_sub hl [1, 2, 3, 4, 5, 7, 8, 9] rfl) hF
def fb_X0_round_61 (S : mSh) : Nat → mMm → Nat → Int32 → Int32 → Int32 → Int32 → Int32 → Int32 → Option (Int32 × mMm)
  | 0, _, _, _, _, _, _, _, _ => none
  | t + 1, M, x0, x1, x2, x3, x4, x5, x6 => ob (rR S M x0 1 4) fun v33 => ob (rR S M v33 2 5) fun v35 => ob (rI S M v35 4 1) fun v37 => (if v37 ≤ x6 then nm ((0 : Int32)) fun v40 => ob (rR S M x0 1 15) fun v42 => ob (aN S v42 100) fun v44 => nm ((0 : Int32)) fun v46 => (fb_X0_round_213 S FU M x1 x2 x3 x4 x5 v40 v42 v44 v46) else ob (rR S M x0 1 4) fun v48 => ob (rR S M v48 2 5) fun v50 => gd ((S v50).1 = 4) (ob (f_X3_first S M v50 x6) fun v54 => (if v54 = (1 : Int32) then (fb_X0_round_112 S (fb_X0_round_61 S t) M x0 x1 x3 x4 x5 x6 v54 (-1 : Int32) x2) else (if v54 = (2 : Int32) then (fb_X0_round_112 S (fb_X0_round_61 S t) M x0 x1 x3 x4 x5 x6 v54 (1 : Int32) x2) else (fb_X0_round_112 S (fb_X0_round_61 S t) M x0 x1 x3 x4 x5 x6 v54 (0 : Int32) x2)))))
theorem b_X0_round_61 {r : Int32} {M' : mMm} (X : mCx D n0 P p m c cX0_round 11 s args yX0_round.cls meth (some .int)) : ∀ t : Nat, ∀ (M : mMm) (x0 : Nat) (x1 : Int32) (x2 : Int32) (x3 : Int32) (x4 : Int32) (x5 : Int32) (x6 : Int32) (H : Heap) (locs : List Loc) (ls : Array Slot), mHp D n0 S M n s H locs → lv_has ls 11 [(0, .ref x0), (1, .int x1), (2, .int x2), (3, .int x3), (4, .int x4), (5, .int x5), (6, .int x6)] → fb_X0_round_61 S t M x0 x1 x2 x3 x4 x5 x6 = some (r, M') → W p l e Rm_X0_round s m args below meth c H locs 0 0 (MQ below (mQ D n0 (some (.int r)) S M' n) args s 0 0 (mA n0)) (F0 m 61 ls []) := by
  have hx := X.1.1
  have hb := X.1.2.1
  have hown := X.1.2.2.2.1
  have hts := X.1.2.2.2.2
  intro t
  induction t with
  | zero =>
    intro M x0 x1 x2 x3 x4 x5 x6 H locs ls hp hl hF
    have hF : none = some (r, M') := hF
    cases hF
  | succ t ih =>
    intro M x0 x1 x2 x3 x4 x5 x6 H locs ls hp hl hF
    rw [fb_X0_round_61] at hF
    refine lv_iload hx hb dX0_round_61 (lv_at hl 6 rfl) ?_
    refine lv_aload_n hx hb dX0_round_63 rfl (lv_at hl 0 rfl) ?_
    obtain ⟨v33, e34, hF⟩ := ob_s hF
    refine m_getR X hp e34 kX0 (Nat.le_of_ble_eq_true rfl) q463 dX0_round_64 ?_
    obtain ⟨v35, e36, hF⟩ := ob_s hF
    refine m_getRN X hp e36 kX1 (Nat.le_of_ble_eq_true rfl) q386 dX0_round_67 ?_
    obtain ⟨v37, e38, hF⟩ := ob_s hF
    refine m_getIN X hp e38 kX3 (Nat.le_of_ble_eq_true rfl) q214 dX0_round_70 ?_
    refine lv_icmp_ge (tgt := 196) hx hb dX0_round_73 (by decide) (fun c39 => ?_) (fun c39 => ?_)
    · have hF := if_p c39 hF
      refine lv_iconst (v := 0) hx hb dX0_round_196 (by decide) ?_
      refine lv_topi (fun v40 ev41 => ?_)
      have hF := nm_s hF ev41
      refine lv_istore (lv' := [(6, .int v40), (0, .ref x0), (1, .int x1), (2, .int x2), (3, .int x3), (4, .int x4), (5, .int x5)]) hx hb dX0_round_197 hl (by decide) rfl (fun ls hl => ?_)
      refine lv_aload_n hx hb dX0_round_199 rfl (lv_at hl 1 rfl) ?_
      obtain ⟨v42, e43, hF⟩ := ob_s hF
      refine m_getR X hp e43 kX0 (Nat.le_of_ble_eq_true rfl) q475 dX0_round_200 ?_
      refine lv_astore (lv' := [(7, .ref v42), (6, .int v40), (0, .ref x0), (1, .int x1), (2, .int x2), (3, .int x3), (4, .int x4), (5, .int x5)]) hx hb dX0_round_203 hl (by decide) rfl (fun ls hl => ?_)
      refine lv_aload hx hb dX0_round_205 (lv_at hl 0 rfl) ?_
      obtain ⟨v44, e45, hF⟩ := ob_s hF
      refine m_aln 100 X hp e45 rfl (by decide) dX0_round_207 ?_
      refine lv_istore (lv' := [(8, .int v44), (7, .ref v42), (6, .int v40), (0, .ref x0), (1, .int x1), (2, .int x2), (3, .int x3), (4, .int x4), (5, .int x5)]) hx hb dX0_round_208 hl (by decide) rfl (fun ls hl => ?_)
      refine lv_iconst (v := 0) hx hb dX0_round_210 (by decide) ?_
      refine lv_topi (fun v46 ev47 => ?_)
      have hF := nm_s hF ev47
      refine lv_istore (lv' := [(9, .int v46), (8, .int v44), (7, .ref v42), (6, .int v40), (0, .ref x0), (1, .int x1), (2, .int x2), (3, .int x3), (4, .int x4), (5, .int x5)]) hx hb dX0_round_211 hl (by decide) rfl (fun ls hl => ?_)
      exact b_X0_round_213 X _ _ _ _ _ _ _ _ _ _ _ _ _ _ hp (lv_sub hl [5, 6, 7, 8, 9, 3, 2, 1, 0] rfl) hF
    · have hF := if_n c39 hF
      refine lv_aload_n hx hb dX0_round_76 rfl (lv_at hl 0 rfl) ?_
      obtain ⟨v48, e49, hF⟩ := ob_s hF
      refine m_getR X hp e49 kX0 (Nat.le_of_ble_eq_true rfl) q463 dX0_round_77 ?_
      obtain ⟨v50, e51, hF⟩ := ob_s hF
      refine m_getRN X hp e51 kX1 (Nat.le_of_ble_eq_true rfl) q386 dX0_round_80 ?_
      refine lv_iload hx hb dX0_round_83 (lv_at hl 6 rfl) ?_
      obtain ⟨g52, hF⟩ := gd_s hF
      obtain ⟨v54, e53, hF⟩ := ob_s hF
      refine m_callV (As := [.int x6]) (rest := []) X hp (w_X3_first e53) q1304 q1305 q1306 q135 q1307 1 rfl ds_X3_first ⟨Nat.le_of_ble_eq_true rfl, Nat.le_of_ble_eq_true rfl⟩ 4 (T := TX3) (N := 2) rfl (by decide) g52 hl.1 rfl (Nat.le_of_ble_eq_true rfl) dX0_round_85 ⟨Nat.le_refl 0, Nat.le_refl 0⟩ (fun H locs hp => ?_)
      refine lv_istore (lv' := [(7, .int v54), (0, .ref x0), (1, .int x1), (2, .int x2), (3, .int x3), (4, .int x4), (5, .int x5), (6, .int x6)]) hx hb dX0_round_88 hl (by decide) rfl (fun ls hl => ?_)
      refine lv_iload_n hx hb dX0_round_90 rfl (lv_at hl 3 rfl) ?_
      refine lv_iload hx hb dX0_round_91 (lv_at hl 0 rfl) ?_
      refine lv_iconst (v := 1) hx hb dX0_round_93 (by decide) ?_
      refine lv_icmp_ne (tgt := 101) hx hb dX0_round_94 (by decide) (fun c55 => ?_) (fun c55 => ?_)
      · have hF := if_n c55 hF
        refine lv_iload hx hb dX0_round_101 (lv_at hl 0 rfl) ?_
        refine lv_iconst (v := 2) hx hb dX0_round_103 (by decide) ?_
        refine lv_icmp_ne (tgt := 111) hx hb dX0_round_104 (by decide) (fun c56 => ?_) (fun c56 => ?_)
        · have hF := if_n c56 hF
          refine lv_iconst (v := 0) hx hb dX0_round_111 (by decide) ?_
          exact b_X0_round_112 X _ ih _ _ _ _ _ _ _ _ _ _ _ _ _ hp (lv_sub hl [1, 2, 4, 5, 6, 7, 0] rfl) hF
        · have hF := if_p c56 hF
          refine lv_iconst (v := 1) hx hb dX0_round_107 (by decide) ?_
          refine lv_goto (tgt := 112) hx hb dX0_round_108 (by decide) ?_
          exact b_X0_round_112 X _ ih _ _ _ _ _ _ _ _ _ _ _ _ _ hp (lv_sub hl [1, 2, 4, 5, 6, 7, 0] rfl) hF
      · have hF := if_p c55 hF
        refine lv_iconst (v := -1) hx hb dX0_round_97 (by decide) ?_
        refine lv_goto (tgt := 112) hx hb dX0_round_98 (by decide) ?_
        exact b_X0_round_112 X _ ih _ _ _ _ _ _ _ _ _ _ _ _ _ hp (lv_sub hl [1, 2, 4, 5, 6, 7, 0] rfl) hF
def fb_X0_round_14 (S : mSh) : Nat → mMm → Nat → Int32 → Int32 → Option (Int32 × mMm)
  | 0, _, _, _, _ => none
  | t + 1, M, x0, x1, x2 => ob (rR S M x0 1 15) fun v6 => ob (aN S v6 100) fun v8 => (if v8 ≤ x2 then nm ((0 : Int32)) fun v11 => nm ((0 : Int32)) fun v13 => nm ((0 : Int32)) fun v15 => nm ((0 : Int32)) fun v17 => ob (rR S M x0 1 15) fun v19 => ob (aI S M v19 100 (1200 : Int32)) fun v21 => ob (wA S M v19 100 (1200 : Int32) (.int (v21 + (1 : Int32)))) fun M23 => nm ((0 : Int32)) fun v25 => (fb_X0_round_61 S FU M23 x0 x1 v11 v13 v15 v17 v25) else ob (rR S M x0 1 15) fun v27 => ob (wA S M v27 100 x2 (.int (0 : Int32))) fun M29 => nm (x2 + (1 : Int32)) fun v31 => (fb_X0_round_14 S t M29 x0 x1 v31))
theorem b_X0_round_14 {r : Int32} {M' : mMm} (X : mCx D n0 P p m c cX0_round 11 s args yX0_round.cls meth (some .int)) : ∀ t : Nat, ∀ (M : mMm) (x0 : Nat) (x1 : Int32) (x2 : Int32) (H : Heap) (locs : List Loc) (ls : Array Slot), mHp D n0 S M n s H locs → lv_has ls 11 [(0, .ref x0), (1, .int x1), (2, .int x2)] → fb_X0_round_14 S t M x0 x1 x2 = some (r, M') → W p l e Rm_X0_round s m args below meth c H locs 0 0 (MQ below (mQ D n0 (some (.int r)) S M' n) args s 0 0 (mA n0)) (F0 m 14 ls []) := by
  have hx := X.1.1
  have hb := X.1.2.1
  have hown := X.1.2.2.2.1
  have hts := X.1.2.2.2.2
  intro t
  induction t with
  | zero =>
    intro M x0 x1 x2 H locs ls hp hl hF
    have hF : none = some (r, M') := hF
    cases hF
  | succ t ih =>
    intro M x0 x1 x2 H locs ls hp hl hF
    rw [fb_X0_round_14] at hF
    refine lv_iload_n hx hb dX0_round_14 rfl (lv_at hl 2 rfl) ?_
    refine lv_aload_n hx hb dX0_round_15 rfl (lv_at hl 0 rfl) ?_
    obtain ⟨v6, e7, hF⟩ := ob_s hF
    refine m_getR X hp e7 kX0 (Nat.le_of_ble_eq_true rfl) q475 dX0_round_16 ?_
    obtain ⟨v8, e9, hF⟩ := ob_s hF
    refine m_aln 100 X hp e9 rfl (by decide) dX0_round_19 ?_
    refine lv_icmp_ge (tgt := 36) hx hb dX0_round_20 (by decide) (fun c10 => ?_) (fun c10 => ?_)
    · have hF := if_p c10 hF
      refine lv_iconst (v := 0) hx hb dX0_round_36 (by decide) ?_
      refine lv_topi (fun v11 ev12 => ?_)
      have hF := nm_s hF ev12
      refine lv_istore_n (lv' := [(2, .int v11), (0, .ref x0), (1, .int x1)]) hx hb dX0_round_37 rfl hl (by decide) rfl (fun ls hl => ?_)
      refine lv_iconst (v := 0) hx hb dX0_round_38 (by decide) ?_
      refine lv_topi (fun v13 ev14 => ?_)
      have hF := nm_s hF ev14
      refine lv_istore_n (lv' := [(3, .int v13), (2, .int v11), (0, .ref x0), (1, .int x1)]) hx hb dX0_round_39 rfl hl (by decide) rfl (fun ls hl => ?_)
      refine lv_iconst (v := 0) hx hb dX0_round_40 (by decide) ?_
      refine lv_topi (fun v15 ev16 => ?_)
      have hF := nm_s hF ev16
      refine lv_istore (lv' := [(4, .int v15), (3, .int v13), (2, .int v11), (0, .ref x0), (1, .int x1)]) hx hb dX0_round_41 hl (by decide) rfl (fun ls hl => ?_)
      refine lv_iconst (v := 0) hx hb dX0_round_43 (by decide) ?_
      refine lv_topi (fun v17 ev18 => ?_)
      have hF := nm_s hF ev18
      refine lv_istore (lv' := [(5, .int v17), (4, .int v15), (3, .int v13), (2, .int v11), (0, .ref x0), (1, .int x1)]) hx hb dX0_round_44 hl (by decide) rfl (fun ls hl => ?_)
      refine lv_aload_n hx hb dX0_round_46 rfl (lv_at hl 4 rfl) ?_
      obtain ⟨v19, e20, hF⟩ := ob_s hF
      refine m_getR X hp e20 kX0 (Nat.le_of_ble_eq_true rfl) q475 dX0_round_47 ?_
      refine lv_sipush (v := 1200) hx hb dX0_round_50 (by decide) ?_
      refine lv_dup2_11 hx hb dX0_round_53 rfl rfl ?_
      obtain ⟨v21, e22, hF⟩ := ob_s hF
      refine m_iaI X hp e22 dX0_round_54 ?_
      refine lv_iconst (v := 1) hx hb dX0_round_55 (by decide) ?_
      refine lv_iadd hx hb dX0_round_56 ?_
      obtain ⟨M23, e24, hF⟩ := ob_s hF
      refine m_iaW X hp e24 dX0_round_57 (fun H locs hp => ?_)
      refine lv_iconst (v := 0) hx hb dX0_round_58 (by decide) ?_
      refine lv_topi (fun v25 ev26 => ?_)
      have hF := nm_s hF ev26
      refine lv_istore (lv' := [(6, .int v25), (5, .int v17), (4, .int v15), (3, .int v13), (2, .int v11), (0, .ref x0), (1, .int x1)]) hx hb dX0_round_59 hl (by decide) rfl (fun ls hl => ?_)
      exact b_X0_round_61 X _ _ _ _ _ _ _ _ _ _ _ _ hp (lv_sub hl [5, 6, 4, 3, 2, 1, 0] rfl) hF
    · have hF := if_n c10 hF
      refine lv_aload_n hx hb dX0_round_23 rfl (lv_at hl 0 rfl) ?_
      obtain ⟨v27, e28, hF⟩ := ob_s hF
      refine m_getR X hp e28 kX0 (Nat.le_of_ble_eq_true rfl) q475 dX0_round_24 ?_
      refine lv_iload_n hx hb dX0_round_27 rfl (lv_at hl 2 rfl) ?_
      refine lv_iconst (v := 0) hx hb dX0_round_28 (by decide) ?_
      obtain ⟨M29, e30, hF⟩ := ob_s hF
      refine m_iaW X hp e30 dX0_round_29 (fun H locs hp => ?_)
      obtain ⟨v31, ev32⟩ : ∃ y : Int32, y = x2 + (1 : Int32) := ⟨_, rfl⟩
      have hF := nm_s hF ev32
      refine lv_iinc (v := v31) (lv' := [(2, .int v31), (0, .ref x0), (1, .int x1)]) hx hb dX0_round_30 hl (k := 2) rfl (by rw [ev32]; rfl) (by decide) rfl (fun ls hl => ?_)
      refine lv_goto (tgt := 14) hx hb dX0_round_33 (by decide) ?_
      exact ih _ _ _ _ _ _ _ hp (lv_sub hl [1, 2, 0] rfl) hF
def f_X0_round (S : mSh) (M : mMm) (x0 : Nat) (x1 : Int32) : Option (Int32 × mMm) := ob (f_X0_isIn x1 (0 : Int32) (3 : Int32)) fun v2 => (if v2 = 0 then some ((-100 : Int32), M) else nm ((0 : Int32)) fun v4 => (fb_X0_round_14 S FU M x0 x1 v4))
theorem w_X0_round {x0 : Nat} {x1 : Int32} {r : Int32} {M' : mMm} (hF : f_X0_round S M x0 x1 = some (r, M')) : mCt l D n0 P yX0_round cX0_round 11 (some .int) 1 22 0 0 [.ref x0, .int x1] S M n (some (.int r)) S M' n := by
  refine m_ofW (by decide) (Nat.le_of_ble_eq_true rfl) (fun p e s m below meth c X hnm hp ls hl => ?_)
  have hx := X.1.1
  have hb := X.1.2.1
  have hown := X.1.2.2.2.1
  have hts := X.1.2.2.2.2
  have hl : lv_has ls 11 [(0, .ref x0), (1, .int x1)] := hl
  unfold f_X0_round at hF
  refine lv_iload_n hx hb dX0_round_0 rfl (lv_at hl 1 rfl) ?_
  refine lv_iconst (v := 0) hx hb dX0_round_1 (by decide) ?_
  refine lv_iconst (v := 3) hx hb dX0_round_2 (by decide) ?_
  obtain ⟨v2, e1, hF⟩ := ob_s hF
  refine m_callS (As := [.int x1, .int (0 : Int32), .int (3 : Int32)]) (rest := []) X hp (w_X0_isIn e1) q565 q566 q132 q567 3 rfl ds_X0_isIn ⟨Nat.le_of_ble_eq_true rfl, Nat.le_of_ble_eq_true rfl⟩ hl.1 rfl (Nat.le_of_ble_eq_true rfl) dX0_round_3 ⟨Nat.le_refl 0, Nat.le_refl 0⟩ (fun H locs hp => ?_)
  refine lv_if_ne (tgt := 12) hx hb dX0_round_6 (by decide) (fun c3 => ?_) (fun c3 => ?_)
  · have hF := if_n c3 hF
    refine lv_iconst (v := 0) hx hb dX0_round_12 (by decide) ?_
    refine lv_topi (fun v4 ev5 => ?_)
    have hF := nm_s hF ev5
    refine lv_istore_n (lv' := [(2, .int v4), (0, .ref x0), (1, .int x1)]) hx hb dX0_round_13 rfl hl (by decide) rfl (fun ls hl => ?_)
    exact b_X0_round_14 X _ _ _ _ _ _ _ _ hp (lv_sub hl [1, 2, 0] rfl) hF
  · have hF := if_p c3 hF
    refine lv_bipush (v := -100) hx hb dX0_round_9 (by decide) ?_
    cases hF
    exact m_iret X hp dX0_round_11
end
