set_option maxRecDepth 100000
section
variable {l : Launch} {D : va_G} {n0 : Nat} {P : mP} {S : mSh} {M : mMm} {n : Nat} {p : Program} {e : Env} {s : State} {m : MethodId} {args : Array Value} {below : List Frame} {meth : Method} {c : Code}
abbrev Rm_X5_image : Room := { frames := 1, cells := 0, slots := 0, locals := 23 }
def fb_X5_image_52 (S : mSh) (M : mMm) (x0 : Nat) : Option (Int32 × mMm) := ob (rI S M x0 6 5) fun v23 => gd (v23 &&& 1 = v23) (some (v23, M))
theorem b_X5_image_52 {r : Int32} {M' : mMm} (X : mCx D n0 P p m c cX5_image 2 s args yX5_image.cls meth (some .boolean)) : ∀ (M : mMm) (x0 : Nat) (H : Heap) (locs : List Loc) (ls : Array Slot), mHp D n0 S M n s H locs → lv_has ls 2 [(0, .ref x0)] → fb_X5_image_52 S M x0 = some (r, M') → W p l e Rm_X5_image s m args below meth c H locs 0 0 (MQ below (mQ D n0 (some (.int r)) S M' n) args s 0 0 (mA n0)) (F0 m 52 ls []) := by
  have hx := X.1.1
  have hb := X.1.2.1
  have hown := X.1.2.2.2.1
  have hts := X.1.2.2.2.2
  intro M x0 H locs ls hp hl hF
  unfold fb_X5_image_52 at hF
  refine lv_aload_n hx hb dX5_image_52 rfl (lv_at hl 0 rfl) ?_
  obtain ⟨v23, e24, hF⟩ := ob_s hF
  refine m_getI X hp e24 kX5 (Nat.le_of_ble_eq_true rfl) q1464 dX5_image_53 ?_
  obtain ⟨g25, hF⟩ := gd_s hF
  cases hF
  exact m_zret X hp ((bz_iff _).mpr g25) dX5_image_56
def f_X5_image (S : mSh) (M : mMm) (x0 : Nat) (x1 : Int32) : Option (Int32 × mMm) := (if x1 = 0 then ob (rI S M x0 6 5) fun v2 => (if v2 = 0 then (fb_X5_image_52 S M x0) else ob (rR S M x0 6 2) fun v5 => ob (rR S M x0 6 0) fun v7 => ob (f_X5_copies S M v5 v7 (2425 : Int32)) fun M11 => ob (wF S M11 x0 6 4 (.int (0 : Int32))) fun M12 => (fb_X5_image_52 S M12 x0)) else ob (rR S M x0 6 0) fun v14 => ob (rR S M x0 6 2) fun v16 => ob (f_X5_copies S M v14 v16 (2425 : Int32)) fun M20 => ob (wF S M20 x0 6 5 (.int (1 : Int32))) fun M21 => (fb_X5_image_52 S M21 x0))
theorem w_X5_image {x0 : Nat} {x1 : Int32} {r : Int32} {M' : mMm} (hF : f_X5_image S M x0 x1 = some (r, M')) : mCt l D n0 P yX5_image cX5_image 2 (some .boolean) 1 23 0 0 [.ref x0, .int x1] S M n (some (.int r)) S M' n := by
  refine m_ofW (by decide) (Nat.le_of_ble_eq_true rfl) (fun p e s m below meth c X hnm hp ls hl => ?_)
  have hx := X.1.1
  have hb := X.1.2.1
  have hown := X.1.2.2.2.1
  have hts := X.1.2.2.2.2
  have hl : lv_has ls 2 [(0, .ref x0), (1, .int x1)] := hl
  unfold f_X5_image at hF
  refine lv_iload_n hx hb dX5_image_0 rfl (lv_at hl 1 rfl) ?_
  refine lv_if_eq (tgt := 26) hx hb dX5_image_1 (by decide) (fun c1 => ?_) (fun c1 => ?_)
  · have hF := if_p c1 hF
    refine lv_aload_n hx hb dX5_image_26 rfl (lv_at hl 0 rfl) ?_
    obtain ⟨v2, e3, hF⟩ := ob_s hF
    refine m_getI X hp e3 kX5 (Nat.le_of_ble_eq_true rfl) q1464 dX5_image_27 ?_
    refine lv_if_eq (tgt := 52) hx hb dX5_image_30 (by decide) (fun c4 => ?_) (fun c4 => ?_)
    · have hF := if_p c4 hF
      exact b_X5_image_52 X _ _ _ _ _ hp (lv_sub hl [0] rfl) hF
    · have hF := if_n c4 hF
      refine lv_aload_n hx hb dX5_image_33 rfl (lv_at hl 0 rfl) ?_
      obtain ⟨v5, e6, hF⟩ := ob_s hF
      refine m_getR X hp e6 kX5 (Nat.le_of_ble_eq_true rfl) q1461 dX5_image_34 ?_
      refine lv_aload_n hx hb dX5_image_37 rfl (lv_at hl 0 rfl) ?_
      obtain ⟨v7, e8, hF⟩ := ob_s hF
      refine m_getR X hp e8 kX5 (Nat.le_of_ble_eq_true rfl) q1459 dX5_image_38 ?_
      refine lv_sipush (v := 2425) hx hb dX5_image_41 (by decide) ?_
      obtain ⟨M11, e9, hF⟩ := ob_s hF
      refine m_callS (As := [.ref v5, .ref v7, .int (2425 : Int32)]) (rest := []) X hp (w_X5_copies e9) q1595 q1596 q144 q1597 3 rfl ds_X5_copies ⟨Nat.le_of_ble_eq_true rfl, Nat.le_of_ble_eq_true rfl⟩ hl.1 rfl (Nat.le_of_ble_eq_true rfl) dX5_image_44 ⟨Nat.le_refl 0, Nat.le_refl 0⟩ (fun H locs hp => ?_)
      refine lv_aload_n hx hb dX5_image_47 rfl (lv_at hl 0 rfl) ?_
      refine lv_iconst (v := 0) hx hb dX5_image_48 (by decide) ?_
      obtain ⟨M12, e13, hF⟩ := ob_s hF
      refine m_putW X hp e13 kX5 (Nat.le_of_ble_eq_true rfl) q1463 rfl rfl rfl dX5_image_49 (fun H locs hp => ?_)
      exact b_X5_image_52 X _ _ _ _ _ hp (lv_sub hl [0] rfl) hF
  · have hF := if_n c1 hF
    refine lv_aload_n hx hb dX5_image_4 rfl (lv_at hl 0 rfl) ?_
    obtain ⟨v14, e15, hF⟩ := ob_s hF
    refine m_getR X hp e15 kX5 (Nat.le_of_ble_eq_true rfl) q1459 dX5_image_5 ?_
    refine lv_aload_n hx hb dX5_image_8 rfl (lv_at hl 0 rfl) ?_
    obtain ⟨v16, e17, hF⟩ := ob_s hF
    refine m_getR X hp e17 kX5 (Nat.le_of_ble_eq_true rfl) q1461 dX5_image_9 ?_
    refine lv_sipush (v := 2425) hx hb dX5_image_12 (by decide) ?_
    obtain ⟨M20, e18, hF⟩ := ob_s hF
    refine m_callS (As := [.ref v14, .ref v16, .int (2425 : Int32)]) (rest := []) X hp (w_X5_copies e18) q1595 q1596 q144 q1597 3 rfl ds_X5_copies ⟨Nat.le_of_ble_eq_true rfl, Nat.le_of_ble_eq_true rfl⟩ hl.1 rfl (Nat.le_of_ble_eq_true rfl) dX5_image_15 ⟨Nat.le_refl 0, Nat.le_refl 0⟩ (fun H locs hp => ?_)
    refine lv_aload_n hx hb dX5_image_18 rfl (lv_at hl 0 rfl) ?_
    refine lv_iconst (v := 1) hx hb dX5_image_19 (by decide) ?_
    obtain ⟨M21, e22, hF⟩ := ob_s hF
    refine m_putW X hp e22 kX5 (Nat.le_of_ble_eq_true rfl) q1464 rfl rfl rfl dX5_image_20 (fun H locs hp => ?_)
    refine lv_goto (tgt := 52) hx hb dX5_image_23 (by decide) ?_
    exact b_X5_image_52 X _ _ _ _ _ hp (lv_sub hl [0] rfl) hF
end
section
variable {l : Launch} {D : va_G} {n0 : Nat} {P : mP} {S : mSh} {M : mMm} {n : Nat} {p : Program} {e : Env} {s : State} {m : MethodId} {args : Array Value} {below : List Frame} {meth : Method} {c : Code}
abbrev Rm_X5_isDigit : Room := { frames := 0, cells := 0, slots := 0, locals := 0 }
def f_X5_isDigit (x0 : Int32) : Option Int32 := (if x0 < (48 : Int32) then some (0 : Int32) else (if (57 : Int32) < x0 then some (0 : Int32) else some (1 : Int32)))
theorem w_X5_isDigit {x0 : Int32} {r : Int32} (hF : f_X5_isDigit x0 = some r) : mCt l D n0 P yX5_isDigit cX5_isDigit 1 (some .boolean) 0 0 0 0 [.int x0] S M n (some (.int r)) S M n := by
  refine m_ofW (by decide) (Nat.le_of_ble_eq_true rfl) (fun p e s m below meth c X hnm hp ls hl => ?_)
  have hx := X.1.1
  have hb := X.1.2.1
  have hown := X.1.2.2.2.1
  have hts := X.1.2.2.2.2
  have hl : lv_has ls 1 [(0, .int x0)] := hl
  unfold f_X5_isDigit at hF
  refine lv_iload_n hx hb dX5_isDigit_0 rfl (lv_at hl 0 rfl) ?_
  refine lv_bipush (v := 48) hx hb dX5_isDigit_1 (by decide) ?_
  refine lv_icmp_lt (tgt := 16) hx hb dX5_isDigit_3 (by decide) (fun c1 => ?_) (fun c1 => ?_)
  · have hF := if_p c1 hF
    refine lv_iconst (v := 0) hx hb dX5_isDigit_16 (by decide) ?_
    cases hF
    exact m_zret X hp rfl dX5_isDigit_17
  · have hF := if_n c1 hF
    refine lv_iload_n hx hb dX5_isDigit_6 rfl (lv_at hl 0 rfl) ?_
    refine lv_bipush (v := 57) hx hb dX5_isDigit_7 (by decide) ?_
    refine lv_icmp_gt (tgt := 16) hx hb dX5_isDigit_9 (by decide) (fun c2 => ?_) (fun c2 => ?_)
    · have hF := if_p c2 hF
      refine lv_iconst (v := 0) hx hb dX5_isDigit_16 (by decide) ?_
      cases hF
      exact m_zret X hp rfl dX5_isDigit_17
    · have hF := if_n c2 hF
      refine lv_iconst (v := 1) hx hb dX5_isDigit_12 (by decide) ?_
      refine lv_goto (tgt := 17) hx hb dX5_isDigit_13 (by decide) ?_
      cases hF
      exact m_zret X hp rfl dX5_isDigit_17
end
section
variable {l : Launch} {D : va_G} {n0 : Nat} {P : mP} {S : mSh} {M : mMm} {n : Nat} {p : Program} {e : Env} {s : State} {m : MethodId} {args : Array Value} {below : List Frame} {meth : Method} {c : Code}
abbrev Rm_X5_known : Room := { frames := 1, cells := 0, slots := 0, locals := 22 }
def f_X5_known (S : mSh) (M : mMm) (x0 : Nat) (x1 : Int32) (x2 : Int32) : Option (Int32 × mMm) := ob (f_X5_within x1 (0 : Int32) (1 : Int32)) fun v2 => (if v2 = 0 then some ((-1 : Int32), M) else ob (f_X5_within x2 (-1 : Int32) (2 : Int32)) fun v5 => (if v5 = 0 then some ((-1 : Int32), M) else nm (((2357 : Int32) + ((13 : Int32) * x1))) fun v7 => (if x2 = (-1 : Int32) then ob (rR S M x0 6 0) fun v33 => ob (wA S M v33 100 v7 (.int (0 : Int32))) fun M35 => some ((0 : Int32), M35) else ob (rR S M x0 6 0) fun v10 => ob (aI S M v10 100 v7) fun v12 => (if v12 = (12 : Int32) then some ((-1 : Int32), M) else ob (rR S M x0 6 0) fun v15 => ob (aI S M v15 100 v7) fun v17 => ob (wA S M v15 100 v7 (.int (v17 + (1 : Int32)))) fun M19 => ob (rR S M19 x0 6 0) fun v21 => ob (rR S M19 x0 6 0) fun v23 => ob (aI S M19 v23 100 v7) fun v25 => ob (wA S M19 v21 100 (v7 + v25) (.int x2)) fun M27 => ob (rR S M27 x0 6 0) fun v29 => ob (aI S M27 v29 100 v7) fun v31 => some (v31, M27)))))
theorem w_X5_known {x0 : Nat} {x1 : Int32} {x2 : Int32} {r : Int32} {M' : mMm} (hF : f_X5_known S M x0 x1 x2 = some (r, M')) : mCt l D n0 P yX5_known cX5_known 4 (some .int) 1 22 0 0 [.ref x0, .int x1, .int x2] S M n (some (.int r)) S M' n := by
  refine m_ofW (by decide) (Nat.le_of_ble_eq_true rfl) (fun p e s m below meth c X hnm hp ls hl => ?_)
  have hx := X.1.1
  have hb := X.1.2.1
  have hown := X.1.2.2.2.1
  have hts := X.1.2.2.2.2
  have hl : lv_has ls 4 [(0, .ref x0), (1, .int x1), (2, .int x2)] := hl
  unfold f_X5_known at hF
  refine lv_iload_n hx hb dX5_known_0 rfl (lv_at hl 1 rfl) ?_
  refine lv_iconst (v := 0) hx hb dX5_known_1 (by decide) ?_
  refine lv_iconst (v := 1) hx hb dX5_known_2 (by decide) ?_
  obtain ⟨v2, e1, hF⟩ := ob_s hF
  refine m_callS (As := [.int x1, .int (0 : Int32), .int (1 : Int32)]) (rest := []) X hp (w_X5_within e1) q1588 q1589 q144 q1590 3 rfl ds_X5_within ⟨Nat.le_of_ble_eq_true rfl, Nat.le_of_ble_eq_true rfl⟩ hl.1 rfl (Nat.le_of_ble_eq_true rfl) dX5_known_3 ⟨Nat.le_refl 0, Nat.le_refl 0⟩ (fun H locs hp => ?_)
  refine lv_if_eq (tgt := 18) hx hb dX5_known_6 (by decide) (fun c3 => ?_) (fun c3 => ?_)
  · have hF := if_p c3 hF
    refine lv_iconst (v := -1) hx hb dX5_known_18 (by decide) ?_
    cases hF
    exact m_iret X hp dX5_known_19
  · have hF := if_n c3 hF
    refine lv_iload_n hx hb dX5_known_9 rfl (lv_at hl 2 rfl) ?_
    refine lv_iconst (v := -1) hx hb dX5_known_10 (by decide) ?_
    refine lv_iconst (v := 2) hx hb dX5_known_11 (by decide) ?_
    obtain ⟨v5, e4, hF⟩ := ob_s hF
    refine m_callS (As := [.int x2, .int (-1 : Int32), .int (2 : Int32)]) (rest := []) X hp (w_X5_within e4) q1588 q1589 q144 q1590 3 rfl ds_X5_within ⟨Nat.le_of_ble_eq_true rfl, Nat.le_of_ble_eq_true rfl⟩ hl.1 rfl (Nat.le_of_ble_eq_true rfl) dX5_known_12 ⟨Nat.le_refl 0, Nat.le_refl 0⟩ (fun H locs hp => ?_)
    refine lv_if_ne (tgt := 20) hx hb dX5_known_15 (by decide) (fun c6 => ?_) (fun c6 => ?_)
    · have hF := if_n c6 hF
      refine lv_sipush (v := 2357) hx hb dX5_known_20 (by decide) ?_
      refine lv_bipush (v := 13) hx hb dX5_known_23 (by decide) ?_
      refine lv_iload_n hx hb dX5_known_25 rfl (lv_at hl 1 rfl) ?_
      refine lv_imul hx hb dX5_known_26 ?_
      refine lv_iadd hx hb dX5_known_27 ?_
      refine lv_topi (fun v7 ev8 => ?_)
      have hF := nm_s hF ev8
      refine lv_istore_n (lv' := [(3, .int v7), (0, .ref x0), (1, .int x1), (2, .int x2)]) hx hb dX5_known_28 rfl hl (by decide) rfl (fun ls hl => ?_)
      refine lv_iload_n hx hb dX5_known_29 rfl (lv_at hl 3 rfl) ?_
      refine lv_iconst (v := -1) hx hb dX5_known_30 (by decide) ?_
      refine lv_icmp_ne (tgt := 43) hx hb dX5_known_31 (by decide) (fun c9 => ?_) (fun c9 => ?_)
      · have hF := if_n c9 hF
        refine lv_aload_n hx hb dX5_known_43 rfl (lv_at hl 1 rfl) ?_
        obtain ⟨v10, e11, hF⟩ := ob_s hF
        refine m_getR X hp e11 kX5 (Nat.le_of_ble_eq_true rfl) q1459 dX5_known_44 ?_
        refine lv_iload_n hx hb dX5_known_47 rfl (lv_at hl 0 rfl) ?_
        obtain ⟨v12, e13, hF⟩ := ob_s hF
        refine m_iaI X hp e13 dX5_known_48 ?_
        refine lv_bipush (v := 12) hx hb dX5_known_49 (by decide) ?_
        refine lv_icmp_ne (tgt := 56) hx hb dX5_known_51 (by decide) (fun c14 => ?_) (fun c14 => ?_)
        · have hF := if_n c14 hF
          refine lv_aload_n hx hb dX5_known_56 rfl (lv_at hl 1 rfl) ?_
          obtain ⟨v15, e16, hF⟩ := ob_s hF
          refine m_getR X hp e16 kX5 (Nat.le_of_ble_eq_true rfl) q1459 dX5_known_57 ?_
          refine lv_iload_n hx hb dX5_known_60 rfl (lv_at hl 0 rfl) ?_
          refine lv_dup2_11 hx hb dX5_known_61 rfl rfl ?_
          obtain ⟨v17, e18, hF⟩ := ob_s hF
          refine m_iaI X hp e18 dX5_known_62 ?_
          refine lv_iconst (v := 1) hx hb dX5_known_63 (by decide) ?_
          refine lv_iadd hx hb dX5_known_64 ?_
          obtain ⟨M19, e20, hF⟩ := ob_s hF
          refine m_iaW X hp e20 dX5_known_65 (fun H locs hp => ?_)
          refine lv_aload_n hx hb dX5_known_66 rfl (lv_at hl 1 rfl) ?_
          obtain ⟨v21, e22, hF⟩ := ob_s hF
          refine m_getR X hp e22 kX5 (Nat.le_of_ble_eq_true rfl) q1459 dX5_known_67 ?_
          refine lv_iload_n hx hb dX5_known_70 rfl (lv_at hl 0 rfl) ?_
          refine lv_aload_n hx hb dX5_known_71 rfl (lv_at hl 1 rfl) ?_
          obtain ⟨v23, e24, hF⟩ := ob_s hF
          refine m_getR X hp e24 kX5 (Nat.le_of_ble_eq_true rfl) q1459 dX5_known_72 ?_
          refine lv_iload_n hx hb dX5_known_75 rfl (lv_at hl 0 rfl) ?_
          obtain ⟨v25, e26, hF⟩ := ob_s hF
          refine m_iaI X hp e26 dX5_known_76 ?_
          refine lv_iadd hx hb dX5_known_77 ?_
          refine lv_iload_n hx hb dX5_known_78 rfl (lv_at hl 3 rfl) ?_
          obtain ⟨M27, e28, hF⟩ := ob_s hF
          refine m_iaW X hp e28 dX5_known_79 (fun H locs hp => ?_)
          refine lv_aload_n hx hb dX5_known_80 rfl (lv_at hl 1 rfl) ?_
          obtain ⟨v29, e30, hF⟩ := ob_s hF
          refine m_getR X hp e30 kX5 (Nat.le_of_ble_eq_true rfl) q1459 dX5_known_81 ?_
          refine lv_iload_n hx hb dX5_known_84 rfl (lv_at hl 0 rfl) ?_
          obtain ⟨v31, e32, hF⟩ := ob_s hF
          refine m_iaI X hp e32 dX5_known_85 ?_
          cases hF
          exact m_iret X hp dX5_known_86
        · have hF := if_p c14 hF
          refine lv_iconst (v := -1) hx hb dX5_known_54 (by decide) ?_
          cases hF
          exact m_iret X hp dX5_known_55
      · have hF := if_p c9 hF
        refine lv_aload_n hx hb dX5_known_34 rfl (lv_at hl 1 rfl) ?_
        obtain ⟨v33, e34, hF⟩ := ob_s hF
        refine m_getR X hp e34 kX5 (Nat.le_of_ble_eq_true rfl) q1459 dX5_known_35 ?_
        refine lv_iload_n hx hb dX5_known_38 rfl (lv_at hl 0 rfl) ?_
        refine lv_iconst (v := 0) hx hb dX5_known_39 (by decide) ?_
        obtain ⟨M35, e36, hF⟩ := ob_s hF
        refine m_iaW X hp e36 dX5_known_40 (fun H locs hp => ?_)
        refine lv_iconst (v := 0) hx hb dX5_known_41 (by decide) ?_
        cases hF
        exact m_iret X hp dX5_known_42
    · have hF := if_p c6 hF
      refine lv_iconst (v := -1) hx hb dX5_known_18 (by decide) ?_
      cases hF
      exact m_iret X hp dX5_known_19
end
section
variable {l : Launch} {D : va_G} {n0 : Nat} {P : mP} {S : mSh} {M : mMm} {n : Nat} {p : Program} {e : Env} {s : State} {m : MethodId} {args : Array Value} {below : List Frame} {meth : Method} {c : Code}
abbrev Rm_X5_lay : Room := { frames := 3, cells := 0, slots := 0, locals := 65 }
def fb_X5_lay_58 (S : mSh) (M : mMm) (x0 : Nat) (x3 : Int32) (x4 : Int32) : Option (Int32 × mMm) := ob (rR S M x0 6 1) fun v22 => ob (wA S M v22 100 x4 (.int x3)) fun M24 => ob (f_X5_ends S M24 x0) fun M28 => some ((1 : Int32), M28)
theorem b_X5_lay_58 {r : Int32} {M' : mMm} (X : mCx D n0 P p m c cX5_lay 5 s args yX5_lay.cls meth (some .boolean)) : ∀ (M : mMm) (x0 : Nat) (x3 : Int32) (x4 : Int32) (H : Heap) (locs : List Loc) (ls : Array Slot), mHp D n0 S M n s H locs → lv_has ls 5 [(0, .ref x0), (3, .int x3), (4, .int x4)] → fb_X5_lay_58 S M x0 x3 x4 = some (r, M') → W p l e Rm_X5_lay s m args below meth c H locs 0 0 (MQ below (mQ D n0 (some (.int r)) S M' n) args s 0 0 (mA n0)) (F0 m 58 ls []) := by
  have hx := X.1.1
  have hb := X.1.2.1
  have hown := X.1.2.2.2.1
  have hts := X.1.2.2.2.2
  intro M x0 x3 x4 H locs ls hp hl hF
  unfold fb_X5_lay_58 at hF
  refine lv_aload_n hx hb dX5_lay_58 rfl (lv_at hl 0 rfl) ?_
  obtain ⟨v22, e23, hF⟩ := ob_s hF
  refine m_getR X hp e23 kX5 (Nat.le_of_ble_eq_true rfl) q1460 dX5_lay_59 ?_
  refine lv_iload hx hb dX5_lay_62 (lv_at hl 2 rfl) ?_
  refine lv_iload_n hx hb dX5_lay_64 rfl (lv_at hl 1 rfl) ?_
  obtain ⟨M24, e25, hF⟩ := ob_s hF
  refine m_iaW X hp e25 dX5_lay_65 (fun H locs hp => ?_)
  refine lv_aload_n hx hb dX5_lay_66 rfl (lv_at hl 0 rfl) ?_
  obtain ⟨M28, e26, hF⟩ := ob_s hF
  refine m_callV (As := []) (rest := []) X hp (w_X5_ends e26) q1823 q1825 qs108 q144 q1826 0 rfl ds_X5_ends ⟨Nat.le_of_ble_eq_true rfl, Nat.le_of_ble_eq_true rfl⟩ 6 (T := TX5) (N := 40) rfl (by decide) (rR_s e23).1 hl.1 rfl (Nat.le_of_ble_eq_true rfl) dX5_lay_67 ⟨Nat.le_refl 0, Nat.le_refl 0⟩ (fun H locs hp => ?_)
  refine lv_iconst (v := 1) hx hb dX5_lay_70 (by decide) ?_
  cases hF
  exact m_zret X hp rfl dX5_lay_71
def f_X5_lay (S : mSh) (M : mMm) (x0 : Nat) (x1 : Int32) (x2 : Int32) (x3 : Int32) : Option (Int32 × mMm) := ob (f_X5_isIn x1 x2) fun v2 => (if v2 = 0 then some ((0 : Int32), M) else ob (f_X5_within x3 (0 : Int32) (3 : Int32)) fun v5 => (if v5 = 0 then some ((0 : Int32), M) else gd ((S x0).1 = 6) (ob (f_X5_begins S M x0) fun M10 => ob (f_X5_place x1 x2) fun v12 => ob (rR S M10 x0 6 1) fun v13 => ob (aI S M10 v13 100 v12) fun v15 => (if v15 = x3 then some ((0 : Int32), M10) else (if x3 = (1 : Int32) then ob (f_X5_whoIsAt S M10 x0 v12) fun v20 => (if v20 = (-1 : Int32) then (fb_X5_lay_58 S M10 x0 x3 v12) else some ((0 : Int32), M10)) else (fb_X5_lay_58 S M10 x0 x3 v12))))))
theorem w_X5_lay {x0 : Nat} {x1 : Int32} {x2 : Int32} {x3 : Int32} {r : Int32} {M' : mMm} (hF : f_X5_lay S M x0 x1 x2 x3 = some (r, M')) : mCt l D n0 P yX5_lay cX5_lay 5 (some .boolean) 3 65 0 0 [.ref x0, .int x1, .int x2, .int x3] S M n (some (.int r)) S M' n := by
  refine m_ofW (by decide) (Nat.le_of_ble_eq_true rfl) (fun p e s m below meth c X hnm hp ls hl => ?_)
  have hx := X.1.1
  have hb := X.1.2.1
  have hown := X.1.2.2.2.1
  have hts := X.1.2.2.2.2
  have hl : lv_has ls 5 [(0, .ref x0), (1, .int x1), (2, .int x2), (3, .int x3)] := hl
  unfold f_X5_lay at hF
  refine lv_iload_n hx hb dX5_lay_0 rfl (lv_at hl 1 rfl) ?_
  refine lv_iload_n hx hb dX5_lay_1 rfl (lv_at hl 2 rfl) ?_
  obtain ⟨v2, e1, hF⟩ := ob_s hF
  refine m_callS (As := [.int x1, .int x2]) (rest := []) X hp (w_X5_isIn e1) q1768 q1769 q144 q1770 2 rfl ds_X5_isIn ⟨Nat.le_of_ble_eq_true rfl, Nat.le_of_ble_eq_true rfl⟩ hl.1 rfl (Nat.le_of_ble_eq_true rfl) dX5_lay_2 ⟨Nat.le_refl 0, Nat.le_refl 0⟩ (fun H locs hp => ?_)
  refine lv_if_eq (tgt := 17) hx hb dX5_lay_5 (by decide) (fun c3 => ?_) (fun c3 => ?_)
  · have hF := if_p c3 hF
    refine lv_iconst (v := 0) hx hb dX5_lay_17 (by decide) ?_
    cases hF
    exact m_zret X hp rfl dX5_lay_18
  · have hF := if_n c3 hF
    refine lv_iload_n hx hb dX5_lay_8 rfl (lv_at hl 3 rfl) ?_
    refine lv_iconst (v := 0) hx hb dX5_lay_9 (by decide) ?_
    refine lv_iconst (v := 3) hx hb dX5_lay_10 (by decide) ?_
    obtain ⟨v5, e4, hF⟩ := ob_s hF
    refine m_callS (As := [.int x3, .int (0 : Int32), .int (3 : Int32)]) (rest := []) X hp (w_X5_within e4) q1588 q1589 q144 q1590 3 rfl ds_X5_within ⟨Nat.le_of_ble_eq_true rfl, Nat.le_of_ble_eq_true rfl⟩ hl.1 rfl (Nat.le_of_ble_eq_true rfl) dX5_lay_11 ⟨Nat.le_refl 0, Nat.le_refl 0⟩ (fun H locs hp => ?_)
    refine lv_if_ne (tgt := 19) hx hb dX5_lay_14 (by decide) (fun c6 => ?_) (fun c6 => ?_)
    · have hF := if_n c6 hF
      refine lv_aload_n hx hb dX5_lay_19 rfl (lv_at hl 0 rfl) ?_
      obtain ⟨g7, hF⟩ := gd_s hF
      obtain ⟨M10, e8, hF⟩ := ob_s hF
      refine m_callV (As := []) (rest := []) X hp (w_X5_begins e8) q1719 q1721 qs87 q144 q1722 0 rfl ds_X5_begins ⟨Nat.le_of_ble_eq_true rfl, Nat.le_of_ble_eq_true rfl⟩ 6 (T := TX5) (N := 40) rfl (by decide) g7 hl.1 rfl (Nat.le_of_ble_eq_true rfl) dX5_lay_20 ⟨Nat.le_refl 0, Nat.le_refl 0⟩ (fun H locs hp => ?_)
      refine lv_iload_n hx hb dX5_lay_23 rfl (lv_at hl 1 rfl) ?_
      refine lv_iload_n hx hb dX5_lay_24 rfl (lv_at hl 2 rfl) ?_
      obtain ⟨v12, e11, hF⟩ := ob_s hF
      refine m_callS (As := [.int x1, .int x2]) (rest := []) X hp (w_X5_place e11) q1708 q1709 q144 q1710 2 rfl ds_X5_place ⟨Nat.le_of_ble_eq_true rfl, Nat.le_of_ble_eq_true rfl⟩ hl.1 rfl (Nat.le_of_ble_eq_true rfl) dX5_lay_25 ⟨Nat.le_refl 0, Nat.le_refl 0⟩ (fun H locs hp => ?_)
      refine lv_istore (lv' := [(4, .int v12), (0, .ref x0), (1, .int x1), (2, .int x2), (3, .int x3)]) hx hb dX5_lay_28 hl (by decide) rfl (fun ls hl => ?_)
      refine lv_aload_n hx hb dX5_lay_30 rfl (lv_at hl 1 rfl) ?_
      obtain ⟨v13, e14, hF⟩ := ob_s hF
      refine m_getR X hp e14 kX5 (Nat.le_of_ble_eq_true rfl) q1460 dX5_lay_31 ?_
      refine lv_iload hx hb dX5_lay_34 (lv_at hl 0 rfl) ?_
      obtain ⟨v15, e16, hF⟩ := ob_s hF
      refine m_iaI X hp e16 dX5_lay_36 ?_
      refine lv_iload_n hx hb dX5_lay_37 rfl (lv_at hl 4 rfl) ?_
      refine lv_icmp_eq (tgt := 56) hx hb dX5_lay_38 (by decide) (fun c17 => ?_) (fun c17 => ?_)
      · have hF := if_p c17 hF
        refine lv_iconst (v := 0) hx hb dX5_lay_56 (by decide) ?_
        cases hF
        exact m_zret X hp rfl dX5_lay_57
      · have hF := if_n c17 hF
        refine lv_iload_n hx hb dX5_lay_41 rfl (lv_at hl 4 rfl) ?_
        refine lv_iconst (v := 1) hx hb dX5_lay_42 (by decide) ?_
        refine lv_icmp_ne (tgt := 58) hx hb dX5_lay_43 (by decide) (fun c18 => ?_) (fun c18 => ?_)
        · have hF := if_n c18 hF
          exact b_X5_lay_58 X _ _ _ _ _ _ _ hp (lv_sub hl [1, 4, 0] rfl) hF
        · have hF := if_p c18 hF
          refine lv_aload_n hx hb dX5_lay_46 rfl (lv_at hl 1 rfl) ?_
          refine lv_iload hx hb dX5_lay_47 (lv_at hl 0 rfl) ?_
          obtain ⟨v20, e19, hF⟩ := ob_s hF
          refine m_callV (As := [.int v12]) (rest := []) X hp (w_X5_whoIsAt e19) q1819 q1821 qs107 q144 q1822 1 rfl ds_X5_whoIsAt ⟨Nat.le_of_ble_eq_true rfl, Nat.le_of_ble_eq_true rfl⟩ 6 (T := TX5) (N := 40) rfl (by decide) (rR_s e14).1 hl.1 rfl (Nat.le_of_ble_eq_true rfl) dX5_lay_49 ⟨Nat.le_refl 0, Nat.le_refl 0⟩ (fun H locs hp => ?_)
          refine lv_iconst (v := -1) hx hb dX5_lay_52 (by decide) ?_
          refine lv_icmp_eq (tgt := 58) hx hb dX5_lay_53 (by decide) (fun c21 => ?_) (fun c21 => ?_)
          · have hF := if_p c21 hF
            exact b_X5_lay_58 X _ _ _ _ _ _ _ hp (lv_sub hl [1, 4, 0] rfl) hF
          · have hF := if_n c21 hF
            refine lv_iconst (v := 0) hx hb dX5_lay_56 (by decide) ?_
            cases hF
            exact m_zret X hp rfl dX5_lay_57
    · have hF := if_p c6 hF
      refine lv_iconst (v := 0) hx hb dX5_lay_17 (by decide) ?_
      cases hF
      exact m_zret X hp rfl dX5_lay_18
end
section
variable {l : Launch} {D : va_G} {n0 : Nat} {P : mP} {S : mSh} {M : mMm} {n : Nat} {p : Program} {e : Env} {s : State} {m : MethodId} {args : Array Value} {below : List Frame} {meth : Method} {c : Code}
abbrev Rm_X5_layFlocks : Room := { frames := 3, cells := 0, slots := 0, locals := 68 }
def fb_X5_layFlocks_29 (S : mSh) (k2 : mMm → Nat → Int32 → Option mMm) (M : mMm) (x0 : Nat) (x1 : Int32) (y0 : Int32) (y1 : Int32) (y2 : Nat) : Option mMm := ob (wA S M y2 100 y1 (.int y0)) fun M13 => nm (x1 + (1 : Int32)) fun v15 => (k2 M13 x0 v15)
theorem b_X5_layFlocks_29 {M' : mMm} (X : mCx D n0 P p m c cX5_layFlocks 4 s args yX5_layFlocks.cls meth none) (k2 : mMm → Nat → Int32 → Option mMm) (hk2 : ∀ (M : mMm) (x0 : Nat) (x1 : Int32) (H : Heap) (locs : List Loc) (ls : Array Slot), mHp D n0 S M n s H locs → lv_has ls 4 [(0, .ref x0), (1, .int x1)] → k2 M x0 x1 = some M' → W p l e Rm_X5_layFlocks s m args below meth c H locs 0 0 (MQ below (mQ D n0 none S M' n) args s 0 0 (mA n0)) (F0 m 2 ls [])) : ∀ (M : mMm) (x0 : Nat) (x1 : Int32) (y0 : Int32) (y1 : Int32) (y2 : Nat) (H : Heap) (locs : List Loc) (ls : Array Slot), mHp D n0 S M n s H locs → lv_has ls 4 [(0, .ref x0), (1, .int x1)] → fb_X5_layFlocks_29 S k2 M x0 x1 y0 y1 y2 = some M' → W p l e Rm_X5_layFlocks s m args below meth c H locs 0 0 (MQ below (mQ D n0 none S M' n) args s 0 0 (mA n0)) (F0 m 29 ls [.int y0, .int y1, .ref y2]) := by
  have hx := X.1.1
  have hb := X.1.2.1
  have hown := X.1.2.2.2.1
  have hts := X.1.2.2.2.2
  intro M x0 x1 y0 y1 y2 H locs ls hp hl hF
  unfold fb_X5_layFlocks_29 at hF
  obtain ⟨M13, e14, hF⟩ := ob_s hF
  refine m_iaW X hp e14 dX5_layFlocks_29 (fun H locs hp => ?_)
  obtain ⟨v15, ev16⟩ : ∃ y : Int32, y = x1 + (1 : Int32) := ⟨_, rfl⟩
  have hF := nm_s hF ev16
  refine lv_iinc (v := v15) (lv' := [(1, .int v15), (0, .ref x0)]) hx hb dX5_layFlocks_30 hl (k := 1) rfl (by rw [ev16]; rfl) (by decide) rfl (fun ls hl => ?_)
  refine lv_goto (tgt := 2) hx hb dX5_layFlocks_33 (by decide) ?_
  exact hk2 _ _ _ _ _ _ hp (lv_sub hl [1, 0] rfl) hF
def fb_X5_layFlocks_122 (S : mSh) (k46 : mMm → Nat → Int32 → Int32 → Option mMm) (M : mMm) (x0 : Nat) (x1 : Int32) (x2 : Int32) : Option mMm := nm (x2 + (1 : Int32)) fun v50 => (k46 M x0 x1 v50)
theorem b_X5_layFlocks_122 {M' : mMm} (X : mCx D n0 P p m c cX5_layFlocks 4 s args yX5_layFlocks.cls meth none) (k46 : mMm → Nat → Int32 → Int32 → Option mMm) (hk46 : ∀ (M : mMm) (x0 : Nat) (x1 : Int32) (x2 : Int32) (H : Heap) (locs : List Loc) (ls : Array Slot), mHp D n0 S M n s H locs → lv_has ls 4 [(0, .ref x0), (1, .int x1), (2, .int x2)] → k46 M x0 x1 x2 = some M' → W p l e Rm_X5_layFlocks s m args below meth c H locs 0 0 (MQ below (mQ D n0 none S M' n) args s 0 0 (mA n0)) (F0 m 46 ls [])) : ∀ (M : mMm) (x0 : Nat) (x1 : Int32) (x2 : Int32) (H : Heap) (locs : List Loc) (ls : Array Slot), mHp D n0 S M n s H locs → lv_has ls 4 [(0, .ref x0), (1, .int x1), (2, .int x2)] → fb_X5_layFlocks_122 S k46 M x0 x1 x2 = some M' → W p l e Rm_X5_layFlocks s m args below meth c H locs 0 0 (MQ below (mQ D n0 none S M' n) args s 0 0 (mA n0)) (F0 m 122 ls []) := by
  have hx := X.1.1
  have hb := X.1.2.1
  have hown := X.1.2.2.2.1
  have hts := X.1.2.2.2.2
  intro M x0 x1 x2 H locs ls hp hl hF
  unfold fb_X5_layFlocks_122 at hF
  obtain ⟨v50, ev51⟩ : ∃ y : Int32, y = x2 + (1 : Int32) := ⟨_, rfl⟩
  have hF := nm_s hF ev51
  refine lv_iinc (v := v50) (lv' := [(2, .int v50), (0, .ref x0), (1, .int x1)]) hx hb dX5_layFlocks_122 hl (k := 2) rfl (by rw [ev51]; rfl) (by decide) rfl (fun ls hl => ?_)
  refine lv_goto (tgt := 46) hx hb dX5_layFlocks_125 (by decide) ?_
  exact hk46 _ _ _ _ _ _ _ hp (lv_sub hl [1, 2, 0] rfl) hF
def fb_X5_layFlocks_80 (S : mSh) (k46 : mMm → Nat → Int32 → Int32 → Option mMm) (M : mMm) (x0 : Nat) (x1 : Int32) (x2 : Int32) (y0 : Int32) : Option mMm := (if y0 = (-1 : Int32) then (fb_X5_layFlocks_122 S k46 M x0 x1 x2) else ob (rR S M x0 6 38) fun v31 => ob (aI S M v31 100 y0) fun v33 => ob (rR S M x0 6 38) fun v35 => ob (aI S M v35 100 (x2 / (4 : Int32))) fun v37 => (if v33 < v37 then ob (rR S M x0 6 38) fun v40 => ob (rR S M x0 6 38) fun v42 => ob (aI S M v42 100 y0) fun v44 => ob (wA S M v40 100 (x2 / (4 : Int32)) (.int v44)) fun M46 => nm ((1 : Int32)) fun v48 => (fb_X5_layFlocks_122 S k46 M46 x0 v48 x2) else (fb_X5_layFlocks_122 S k46 M x0 x1 x2)))
theorem b_X5_layFlocks_80 {M' : mMm} (X : mCx D n0 P p m c cX5_layFlocks 4 s args yX5_layFlocks.cls meth none) (k46 : mMm → Nat → Int32 → Int32 → Option mMm) (hk46 : ∀ (M : mMm) (x0 : Nat) (x1 : Int32) (x2 : Int32) (H : Heap) (locs : List Loc) (ls : Array Slot), mHp D n0 S M n s H locs → lv_has ls 4 [(0, .ref x0), (1, .int x1), (2, .int x2)] → k46 M x0 x1 x2 = some M' → W p l e Rm_X5_layFlocks s m args below meth c H locs 0 0 (MQ below (mQ D n0 none S M' n) args s 0 0 (mA n0)) (F0 m 46 ls [])) : ∀ (M : mMm) (x0 : Nat) (x1 : Int32) (x2 : Int32) (y0 : Int32) (H : Heap) (locs : List Loc) (ls : Array Slot), mHp D n0 S M n s H locs → lv_has ls 4 [(0, .ref x0), (1, .int x1), (2, .int x2)] → fb_X5_layFlocks_80 S k46 M x0 x1 x2 y0 = some M' → W p l e Rm_X5_layFlocks s m args below meth c H locs 0 0 (MQ below (mQ D n0 none S M' n) args s 0 0 (mA n0)) (F0 m 80 ls [.int y0]) := by
  have hx := X.1.1
  have hb := X.1.2.1
  have hown := X.1.2.2.2.1
  have hts := X.1.2.2.2.2
  intro M x0 x1 x2 y0 H locs ls hp hl hF
  unfold fb_X5_layFlocks_80 at hF
  refine lv_istore_n (lv' := [(3, .int y0), (0, .ref x0), (1, .int x1), (2, .int x2)]) hx hb dX5_layFlocks_80 rfl hl (by decide) rfl (fun ls hl => ?_)
  refine lv_iload_n hx hb dX5_layFlocks_81 rfl (lv_at hl 0 rfl) ?_
  refine lv_iconst (v := -1) hx hb dX5_layFlocks_82 (by decide) ?_
  refine lv_icmp_eq (tgt := 122) hx hb dX5_layFlocks_83 (by decide) (fun c30 => ?_) (fun c30 => ?_)
  · have hF := if_p c30 hF
    exact b_X5_layFlocks_122 X _ hk46 _ _ _ _ _ _ _ hp (lv_sub hl [1, 2, 3] rfl) hF
  · have hF := if_n c30 hF
    refine lv_aload_n hx hb dX5_layFlocks_86 rfl (lv_at hl 1 rfl) ?_
    obtain ⟨v31, e32, hF⟩ := ob_s hF
    refine m_getR X hp e32 kX5 (Nat.le_of_ble_eq_true rfl) q1497 dX5_layFlocks_87 ?_
    refine lv_iload_n hx hb dX5_layFlocks_90 rfl (lv_at hl 0 rfl) ?_
    obtain ⟨v33, e34, hF⟩ := ob_s hF
    refine m_iaI X hp e34 dX5_layFlocks_91 ?_
    refine lv_aload_n hx hb dX5_layFlocks_92 rfl (lv_at hl 1 rfl) ?_
    obtain ⟨v35, e36, hF⟩ := ob_s hF
    refine m_getR X hp e36 kX5 (Nat.le_of_ble_eq_true rfl) q1497 dX5_layFlocks_93 ?_
    refine lv_iload_n hx hb dX5_layFlocks_96 rfl (lv_at hl 3 rfl) ?_
    refine lv_iconst (v := 4) hx hb dX5_layFlocks_97 (by decide) ?_
    refine lv_idiv hx hb dX5_layFlocks_98 (by decide) ?_
    obtain ⟨v37, e38, hF⟩ := ob_s hF
    refine m_iaI X hp e38 dX5_layFlocks_99 ?_
    refine lv_icmp_lt (tgt := 106) hx hb dX5_layFlocks_100 (by decide) (fun c39 => ?_) (fun c39 => ?_)
    · have hF := if_p c39 hF
      refine lv_aload_n hx hb dX5_layFlocks_106 rfl (lv_at hl 1 rfl) ?_
      obtain ⟨v40, e41, hF⟩ := ob_s hF
      refine m_getR X hp e41 kX5 (Nat.le_of_ble_eq_true rfl) q1497 dX5_layFlocks_107 ?_
      refine lv_iload_n hx hb dX5_layFlocks_110 rfl (lv_at hl 3 rfl) ?_
      refine lv_iconst (v := 4) hx hb dX5_layFlocks_111 (by decide) ?_
      refine lv_idiv hx hb dX5_layFlocks_112 (by decide) ?_
      refine lv_aload_n hx hb dX5_layFlocks_113 rfl (lv_at hl 1 rfl) ?_
      obtain ⟨v42, e43, hF⟩ := ob_s hF
      refine m_getR X hp e43 kX5 (Nat.le_of_ble_eq_true rfl) q1497 dX5_layFlocks_114 ?_
      refine lv_iload_n hx hb dX5_layFlocks_117 rfl (lv_at hl 0 rfl) ?_
      obtain ⟨v44, e45, hF⟩ := ob_s hF
      refine m_iaI X hp e45 dX5_layFlocks_118 ?_
      obtain ⟨M46, e47, hF⟩ := ob_s hF
      refine m_iaW X hp e47 dX5_layFlocks_119 (fun H locs hp => ?_)
      refine lv_iconst (v := 1) hx hb dX5_layFlocks_120 (by decide) ?_
      refine lv_topi (fun v48 ev49 => ?_)
      have hF := nm_s hF ev49
      refine lv_istore_n (lv' := [(1, .int v48), (3, .int y0), (0, .ref x0), (2, .int x2)]) hx hb dX5_layFlocks_121 rfl hl (by decide) rfl (fun ls hl => ?_)
      exact b_X5_layFlocks_122 X _ hk46 _ _ _ _ _ _ _ hp (lv_sub hl [2, 0, 3] rfl) hF
    · have hF := if_n c39 hF
      refine lv_goto (tgt := 122) hx hb dX5_layFlocks_103 (by decide) ?_
      exact b_X5_layFlocks_122 X _ hk46 _ _ _ _ _ _ _ hp (lv_sub hl [1, 2, 3] rfl) hF
def fb_X5_layFlocks_46 (S : mSh) (k38 : mMm → Nat → Int32 → Option mMm) : Nat → mMm → Nat → Int32 → Int32 → Option mMm
  | 0, _, _, _, _ => none
  | t + 1, M, x0, x1, x2 => (if (576 : Int32) ≤ x2 then (k38 M x0 x1) else ob (rR S M x0 6 0) fun v23 => ob (aI S M v23 100 (x2 / (4 : Int32))) fun v25 => (if v25 = (1 : Int32) then (fb_X5_layFlocks_80 S (fb_X5_layFlocks_46 S k38 t) M x0 x1 x2 (-1 : Int32)) else ob (f_X5_onBy S M x0 (x2 / (4 : Int32)) (x2 - x2 / (4 : Int32) * (4 : Int32)) (1 : Int32)) fun v29 => (fb_X5_layFlocks_80 S (fb_X5_layFlocks_46 S k38 t) M x0 x1 x2 v29)))
theorem b_X5_layFlocks_46 {M' : mMm} (X : mCx D n0 P p m c cX5_layFlocks 4 s args yX5_layFlocks.cls meth none) (k38 : mMm → Nat → Int32 → Option mMm) (hk38 : ∀ (M : mMm) (x0 : Nat) (x1 : Int32) (H : Heap) (locs : List Loc) (ls : Array Slot), mHp D n0 S M n s H locs → lv_has ls 4 [(0, .ref x0), (1, .int x1)] → k38 M x0 x1 = some M' → W p l e Rm_X5_layFlocks s m args below meth c H locs 0 0 (MQ below (mQ D n0 none S M' n) args s 0 0 (mA n0)) (F0 m 38 ls [])) : ∀ t : Nat, ∀ (M : mMm) (x0 : Nat) (x1 : Int32) (x2 : Int32) (H : Heap) (locs : List Loc) (ls : Array Slot), mHp D n0 S M n s H locs → lv_has ls 4 [(0, .ref x0), (1, .int x1), (2, .int x2)] → fb_X5_layFlocks_46 S k38 t M x0 x1 x2 = some M' → W p l e Rm_X5_layFlocks s m args below meth c H locs 0 0 (MQ below (mQ D n0 none S M' n) args s 0 0 (mA n0)) (F0 m 46 ls []) := by
  have hx := X.1.1
  have hb := X.1.2.1
  have hown := X.1.2.2.2.1
  have hts := X.1.2.2.2.2
  intro t
  induction t with
  | zero =>
    intro M x0 x1 x2 H locs ls hp hl hF
    have hF : none = some M' := hF
    cases hF
  | succ t ih =>
    intro M x0 x1 x2 H locs ls hp hl hF
    rw [fb_X5_layFlocks_46] at hF
    refine lv_iload_n hx hb dX5_layFlocks_46 rfl (lv_at hl 2 rfl) ?_
    refine lv_sipush (v := 576) hx hb dX5_layFlocks_47 (by decide) ?_
    refine lv_icmp_ge (tgt := 128) hx hb dX5_layFlocks_50 (by decide) (fun c22 => ?_) (fun c22 => ?_)
    · have hF := if_p c22 hF
      refine lv_goto (tgt := 38) hx hb dX5_layFlocks_128 (by decide) ?_
      exact hk38 _ _ _ _ _ _ hp (lv_sub hl [0, 1] rfl) hF
    · have hF := if_n c22 hF
      refine lv_aload_n hx hb dX5_layFlocks_53 rfl (lv_at hl 0 rfl) ?_
      obtain ⟨v23, e24, hF⟩ := ob_s hF
      refine m_getR X hp e24 kX5 (Nat.le_of_ble_eq_true rfl) q1459 dX5_layFlocks_54 ?_
      refine lv_iload_n hx hb dX5_layFlocks_57 rfl (lv_at hl 2 rfl) ?_
      refine lv_iconst (v := 4) hx hb dX5_layFlocks_58 (by decide) ?_
      refine lv_idiv hx hb dX5_layFlocks_59 (by decide) ?_
      obtain ⟨v25, e26, hF⟩ := ob_s hF
      refine m_iaI X hp e26 dX5_layFlocks_60 ?_
      refine lv_iconst (v := 1) hx hb dX5_layFlocks_61 (by decide) ?_
      refine lv_icmp_ne (tgt := 69) hx hb dX5_layFlocks_62 (by decide) (fun c27 => ?_) (fun c27 => ?_)
      · have hF := if_n c27 hF
        refine lv_aload_n hx hb dX5_layFlocks_69 rfl (lv_at hl 0 rfl) ?_
        refine lv_iload_n hx hb dX5_layFlocks_70 rfl (lv_at hl 2 rfl) ?_
        refine lv_iconst (v := 4) hx hb dX5_layFlocks_71 (by decide) ?_
        refine lv_idiv hx hb dX5_layFlocks_72 (by decide) ?_
        refine lv_iload_n hx hb dX5_layFlocks_73 rfl (lv_at hl 2 rfl) ?_
        refine lv_iconst (v := 4) hx hb dX5_layFlocks_74 (by decide) ?_
        refine lv_irem hx hb dX5_layFlocks_75 (by decide) ?_
        refine lv_iconst (v := 1) hx hb dX5_layFlocks_76 (by decide) ?_
        obtain ⟨v29, e28, hF⟩ := ob_s hF
        refine m_callV (As := [.int (x2 / (4 : Int32)), .int (x2 - x2 / (4 : Int32) * (4 : Int32)), .int (1 : Int32)]) (rest := []) X hp (w_X5_onBy e28) q1915 q1917 qs116 q144 q1918 3 rfl ds_X5_onBy ⟨Nat.le_of_ble_eq_true rfl, Nat.le_of_ble_eq_true rfl⟩ 6 (T := TX5) (N := 40) rfl (by decide) (rR_s e24).1 hl.1 rfl (Nat.le_of_ble_eq_true rfl) dX5_layFlocks_77 ⟨Nat.le_refl 0, Nat.le_refl 0⟩ (fun H locs hp => ?_)
        exact b_X5_layFlocks_80 X _ ih _ _ _ _ _ _ _ _ hp (lv_sub hl [0, 1, 2] rfl) hF
      · have hF := if_p c27 hF
        refine lv_iconst (v := -1) hx hb dX5_layFlocks_65 (by decide) ?_
        refine lv_goto (tgt := 80) hx hb dX5_layFlocks_66 (by decide) ?_
        exact b_X5_layFlocks_80 X _ ih _ _ _ _ _ _ _ _ hp (lv_sub hl [0, 1, 2] rfl) hF
def fb_X5_layFlocks_38 (S : mSh) : Nat → mMm → Nat → Int32 → Option mMm
  | 0, _, _, _ => none
  | t + 1, M, x0, x1 => (if x1 = 0 then some M else nm ((0 : Int32)) fun v18 => nm ((0 : Int32)) fun v20 => (fb_X5_layFlocks_46 S (fb_X5_layFlocks_38 S t) FU M x0 v18 v20))
theorem b_X5_layFlocks_38 {M' : mMm} (X : mCx D n0 P p m c cX5_layFlocks 4 s args yX5_layFlocks.cls meth none) : ∀ t : Nat, ∀ (M : mMm) (x0 : Nat) (x1 : Int32) (H : Heap) (locs : List Loc) (ls : Array Slot), mHp D n0 S M n s H locs → lv_has ls 4 [(0, .ref x0), (1, .int x1)] → fb_X5_layFlocks_38 S t M x0 x1 = some M' → W p l e Rm_X5_layFlocks s m args below meth c H locs 0 0 (MQ below (mQ D n0 none S M' n) args s 0 0 (mA n0)) (F0 m 38 ls []) := by
  have hx := X.1.1
  have hb := X.1.2.1
  have hown := X.1.2.2.2.1
  have hts := X.1.2.2.2.2
  intro t
  induction t with
  | zero =>
    intro M x0 x1 H locs ls hp hl hF
    have hF : none = some M' := hF
    cases hF
  | succ t ih =>
    intro M x0 x1 H locs ls hp hl hF
    rw [fb_X5_layFlocks_38] at hF
    refine lv_iload_n hx hb dX5_layFlocks_38 rfl (lv_at hl 1 rfl) ?_
    refine lv_if_eq (tgt := 131) hx hb dX5_layFlocks_39 (by decide) (fun c17 => ?_) (fun c17 => ?_)
    · have hF := if_p c17 hF
      cases hF
      exact m_vret X hp dX5_layFlocks_131
    · have hF := if_n c17 hF
      refine lv_iconst (v := 0) hx hb dX5_layFlocks_42 (by decide) ?_
      refine lv_topi (fun v18 ev19 => ?_)
      have hF := nm_s hF ev19
      refine lv_istore_n (lv' := [(1, .int v18), (0, .ref x0)]) hx hb dX5_layFlocks_43 rfl hl (by decide) rfl (fun ls hl => ?_)
      refine lv_iconst (v := 0) hx hb dX5_layFlocks_44 (by decide) ?_
      refine lv_topi (fun v20 ev21 => ?_)
      have hF := nm_s hF ev21
      refine lv_istore_n (lv' := [(2, .int v20), (1, .int v18), (0, .ref x0)]) hx hb dX5_layFlocks_45 rfl hl (by decide) rfl (fun ls hl => ?_)
      exact b_X5_layFlocks_46 X _ ih _ _ _ _ _ _ _ _ hp (lv_sub hl [2, 1, 0] rfl) hF
def fb_X5_layFlocks_2 (S : mSh) : Nat → mMm → Nat → Int32 → Option mMm
  | 0, _, _, _ => none
  | t + 1, M, x0, x1 => (if (144 : Int32) ≤ x1 then nm ((1 : Int32)) fun v4 => (fb_X5_layFlocks_38 S FU M x0 v4) else ob (rR S M x0 6 38) fun v6 => ob (rR S M x0 6 0) fun v8 => ob (aI S M v8 100 x1) fun v10 => (if v10 = (1 : Int32) then (fb_X5_layFlocks_29 S (fb_X5_layFlocks_2 S t) M x0 x1 (-1 : Int32) x1 v6) else (fb_X5_layFlocks_29 S (fb_X5_layFlocks_2 S t) M x0 x1 x1 x1 v6)))
theorem b_X5_layFlocks_2 {M' : mMm} (X : mCx D n0 P p m c cX5_layFlocks 4 s args yX5_layFlocks.cls meth none) : ∀ t : Nat, ∀ (M : mMm) (x0 : Nat) (x1 : Int32) (H : Heap) (locs : List Loc) (ls : Array Slot), mHp D n0 S M n s H locs → lv_has ls 4 [(0, .ref x0), (1, .int x1)] → fb_X5_layFlocks_2 S t M x0 x1 = some M' → W p l e Rm_X5_layFlocks s m args below meth c H locs 0 0 (MQ below (mQ D n0 none S M' n) args s 0 0 (mA n0)) (F0 m 2 ls []) := by
  have hx := X.1.1
  have hb := X.1.2.1
  have hown := X.1.2.2.2.1
  have hts := X.1.2.2.2.2
  intro t
  induction t with
  | zero =>
    intro M x0 x1 H locs ls hp hl hF
    have hF : none = some M' := hF
    cases hF
  | succ t ih =>
    intro M x0 x1 H locs ls hp hl hF
    rw [fb_X5_layFlocks_2] at hF
    refine lv_iload_n hx hb dX5_layFlocks_2 rfl (lv_at hl 1 rfl) ?_
    refine lv_sipush (v := 144) hx hb dX5_layFlocks_3 (by decide) ?_
    refine lv_icmp_ge (tgt := 36) hx hb dX5_layFlocks_6 (by decide) (fun c3 => ?_) (fun c3 => ?_)
    · have hF := if_p c3 hF
      refine lv_iconst (v := 1) hx hb dX5_layFlocks_36 (by decide) ?_
      refine lv_topi (fun v4 ev5 => ?_)
      have hF := nm_s hF ev5
      refine lv_istore_n (lv' := [(1, .int v4), (0, .ref x0)]) hx hb dX5_layFlocks_37 rfl hl (by decide) rfl (fun ls hl => ?_)
      exact b_X5_layFlocks_38 X _ _ _ _ _ _ _ hp (lv_sub hl [1, 0] rfl) hF
    · have hF := if_n c3 hF
      refine lv_aload_n hx hb dX5_layFlocks_9 rfl (lv_at hl 0 rfl) ?_
      obtain ⟨v6, e7, hF⟩ := ob_s hF
      refine m_getR X hp e7 kX5 (Nat.le_of_ble_eq_true rfl) q1497 dX5_layFlocks_10 ?_
      refine lv_iload_n hx hb dX5_layFlocks_13 rfl (lv_at hl 1 rfl) ?_
      refine lv_aload_n hx hb dX5_layFlocks_14 rfl (lv_at hl 0 rfl) ?_
      obtain ⟨v8, e9, hF⟩ := ob_s hF
      refine m_getR X hp e9 kX5 (Nat.le_of_ble_eq_true rfl) q1459 dX5_layFlocks_15 ?_
      refine lv_iload_n hx hb dX5_layFlocks_18 rfl (lv_at hl 1 rfl) ?_
      obtain ⟨v10, e11, hF⟩ := ob_s hF
      refine m_iaI X hp e11 dX5_layFlocks_19 ?_
      refine lv_iconst (v := 1) hx hb dX5_layFlocks_20 (by decide) ?_
      refine lv_icmp_ne (tgt := 28) hx hb dX5_layFlocks_21 (by decide) (fun c12 => ?_) (fun c12 => ?_)
      · have hF := if_n c12 hF
        refine lv_iload_n hx hb dX5_layFlocks_28 rfl (lv_at hl 1 rfl) ?_
        exact b_X5_layFlocks_29 X _ ih _ _ _ _ _ _ _ _ _ hp (lv_sub hl [0, 1] rfl) hF
      · have hF := if_p c12 hF
        refine lv_iconst (v := -1) hx hb dX5_layFlocks_24 (by decide) ?_
        refine lv_goto (tgt := 29) hx hb dX5_layFlocks_25 (by decide) ?_
        exact b_X5_layFlocks_29 X _ ih _ _ _ _ _ _ _ _ _ hp (lv_sub hl [0, 1] rfl) hF
def f_X5_layFlocks (S : mSh) (M : mMm) (x0 : Nat) : Option mMm := nm ((0 : Int32)) fun v1 => (fb_X5_layFlocks_2 S FU M x0 v1)
theorem w_X5_layFlocks {x0 : Nat} {M' : mMm} (hF : f_X5_layFlocks S M x0 = some M') : mCt l D n0 P yX5_layFlocks cX5_layFlocks 4 none 3 68 0 0 [.ref x0] S M n none S M' n := by
  refine m_ofW (by decide) (Nat.le_of_ble_eq_true rfl) (fun p e s m below meth c X hnm hp ls hl => ?_)
  have hx := X.1.1
  have hb := X.1.2.1
  have hown := X.1.2.2.2.1
  have hts := X.1.2.2.2.2
  have hl : lv_has ls 4 [(0, .ref x0)] := hl
  unfold f_X5_layFlocks at hF
  refine lv_iconst (v := 0) hx hb dX5_layFlocks_0 (by decide) ?_
  refine lv_topi (fun v1 ev2 => ?_)
  have hF := nm_s hF ev2
  refine lv_istore_n (lv' := [(1, .int v1), (0, .ref x0)]) hx hb dX5_layFlocks_1 rfl hl (by decide) rfl (fun ls hl => ?_)
  exact b_X5_layFlocks_2 X _ _ _ _ _ _ _ hp (lv_sub hl [1, 0] rfl) hF
end
section
variable {l : Launch} {D : va_G} {n0 : Nat} {P : mP} {S : mSh} {M : mMm} {n : Nat} {p : Program} {e : Env} {s : State} {m : MethodId} {args : Array Value} {below : List Frame} {meth : Method} {c : Code}
abbrev Rm_X5_look : Room := { frames := 2, cells := 0, slots := 0, locals := 43 }
def fb_X5_look_25 (S : mSh) : Nat → mMm → Nat → Int32 → Int32 → Option (Int32 × mMm)
  | 0, _, _, _, _ => none
  | t + 1, M, x0, x2, x3 => ob (rR S M x0 6 1) fun v32 => ob (aI S M v32 100 (940 : Int32)) fun v34 => (if v34 ≤ x3 then some (x2, M) else ob (f_X5_has S M x0 x3 (1 : Int32)) fun v38 => nm ((x2 ||| (v38 <<< (x3 &&& 31)))) fun v39 => nm (x3 + (1 : Int32)) fun v41 => (fb_X5_look_25 S t M x0 v39 v41))
theorem b_X5_look_25 {r : Int32} {M' : mMm} (X : mCx D n0 P p m c cX5_look 4 s args yX5_look.cls meth (some .int)) : ∀ t : Nat, ∀ (M : mMm) (x0 : Nat) (x2 : Int32) (x3 : Int32) (H : Heap) (locs : List Loc) (ls : Array Slot), mHp D n0 S M n s H locs → lv_has ls 4 [(0, .ref x0), (2, .int x2), (3, .int x3)] → fb_X5_look_25 S t M x0 x2 x3 = some (r, M') → W p l e Rm_X5_look s m args below meth c H locs 0 0 (MQ below (mQ D n0 (some (.int r)) S M' n) args s 0 0 (mA n0)) (F0 m 25 ls []) := by
  have hx := X.1.1
  have hb := X.1.2.1
  have hown := X.1.2.2.2.1
  have hts := X.1.2.2.2.2
  intro t
  induction t with
  | zero =>
    intro M x0 x2 x3 H locs ls hp hl hF
    have hF : none = some (r, M') := hF
    cases hF
  | succ t ih =>
    intro M x0 x2 x3 H locs ls hp hl hF
    rw [fb_X5_look_25] at hF
    refine lv_iload_n hx hb dX5_look_25 rfl (lv_at hl 2 rfl) ?_
    refine lv_aload_n hx hb dX5_look_26 rfl (lv_at hl 0 rfl) ?_
    obtain ⟨v32, e33, hF⟩ := ob_s hF
    refine m_getR X hp e33 kX5 (Nat.le_of_ble_eq_true rfl) q1460 dX5_look_27 ?_
    refine lv_sipush (v := 940) hx hb dX5_look_30 (by decide) ?_
    obtain ⟨v34, e35, hF⟩ := ob_s hF
    refine m_iaI X hp e35 dX5_look_33 ?_
    refine lv_icmp_ge (tgt := 54) hx hb dX5_look_34 (by decide) (fun c36 => ?_) (fun c36 => ?_)
    · have hF := if_p c36 hF
      refine lv_iload_n hx hb dX5_look_54 rfl (lv_at hl 1 rfl) ?_
      cases hF
      exact m_iret X hp dX5_look_55
    · have hF := if_n c36 hF
      refine lv_iload_n hx hb dX5_look_37 rfl (lv_at hl 1 rfl) ?_
      refine lv_aload_n hx hb dX5_look_38 rfl (lv_at hl 0 rfl) ?_
      refine lv_iload_n hx hb dX5_look_39 rfl (lv_at hl 2 rfl) ?_
      refine lv_iconst (v := 1) hx hb dX5_look_40 (by decide) ?_
      obtain ⟨v38, e37, hF⟩ := ob_s hF
      refine m_callV (As := [.int x3, .int (1 : Int32)]) (rest := [.int x2]) X hp (w_X5_has e37) q1727 q1729 qs89 q144 q1730 2 rfl ds_X5_has ⟨Nat.le_of_ble_eq_true rfl, Nat.le_of_ble_eq_true rfl⟩ 6 (T := TX5) (N := 40) rfl (by decide) (rR_s e33).1 hl.1 rfl (Nat.le_of_ble_eq_true rfl) dX5_look_41 ⟨Nat.le_refl 0, Nat.le_refl 0⟩ (fun H locs hp => ?_)
      refine lv_iload_n hx hb dX5_look_44 rfl (lv_at hl 2 rfl) ?_
      refine lv_ishl hx hb dX5_look_45 ?_
      refine lv_ior hx hb dX5_look_46 ?_
      refine lv_topi (fun v39 ev40 => ?_)
      have hF := nm_s hF ev40
      refine lv_istore_n (lv' := [(2, .int v39), (0, .ref x0), (3, .int x3)]) hx hb dX5_look_47 rfl hl (by decide) rfl (fun ls hl => ?_)
      obtain ⟨v41, ev42⟩ : ∃ y : Int32, y = x3 + (1 : Int32) := ⟨_, rfl⟩
      have hF := nm_s hF ev42
      refine lv_iinc (v := v41) (lv' := [(3, .int v41), (2, .int v39), (0, .ref x0)]) hx hb dX5_look_48 hl (k := 2) rfl (by rw [ev42]; rfl) (by decide) rfl (fun ls hl => ?_)
      refine lv_goto (tgt := 25) hx hb dX5_look_51 (by decide) ?_
      exact ih _ _ _ _ _ _ _ hp (lv_sub hl [2, 1, 0] rfl) hF
def fb_X5_look_88 (S : mSh) (k65 : mMm → Nat → Int32 → Int32 → Option (Int32 × mMm)) (M : mMm) (x0 : Nat) (x3 : Int32) (y0 : Int32) (y1 : Int32) : Option (Int32 × mMm) := nm ((y1 + y0)) fun v49 => nm (x3 + (1 : Int32)) fun v51 => (k65 M x0 v49 v51)
theorem b_X5_look_88 {r : Int32} {M' : mMm} (X : mCx D n0 P p m c cX5_look 4 s args yX5_look.cls meth (some .int)) (k65 : mMm → Nat → Int32 → Int32 → Option (Int32 × mMm)) (hk65 : ∀ (M : mMm) (x0 : Nat) (x2 : Int32) (x3 : Int32) (H : Heap) (locs : List Loc) (ls : Array Slot), mHp D n0 S M n s H locs → lv_has ls 4 [(0, .ref x0), (2, .int x2), (3, .int x3)] → k65 M x0 x2 x3 = some (r, M') → W p l e Rm_X5_look s m args below meth c H locs 0 0 (MQ below (mQ D n0 (some (.int r)) S M' n) args s 0 0 (mA n0)) (F0 m 65 ls [])) : ∀ (M : mMm) (x0 : Nat) (x3 : Int32) (y0 : Int32) (y1 : Int32) (H : Heap) (locs : List Loc) (ls : Array Slot), mHp D n0 S M n s H locs → lv_has ls 4 [(0, .ref x0), (3, .int x3)] → fb_X5_look_88 S k65 M x0 x3 y0 y1 = some (r, M') → W p l e Rm_X5_look s m args below meth c H locs 0 0 (MQ below (mQ D n0 (some (.int r)) S M' n) args s 0 0 (mA n0)) (F0 m 88 ls [.int y0, .int y1]) := by
  have hx := X.1.1
  have hb := X.1.2.1
  have hown := X.1.2.2.2.1
  have hts := X.1.2.2.2.2
  intro M x0 x3 y0 y1 H locs ls hp hl hF
  unfold fb_X5_look_88 at hF
  refine lv_iadd hx hb dX5_look_88 ?_
  refine lv_topi (fun v49 ev50 => ?_)
  have hF := nm_s hF ev50
  refine lv_istore_n (lv' := [(2, .int v49), (0, .ref x0), (3, .int x3)]) hx hb dX5_look_89 rfl hl (by decide) rfl (fun ls hl => ?_)
  obtain ⟨v51, ev52⟩ : ∃ y : Int32, y = x3 + (1 : Int32) := ⟨_, rfl⟩
  have hF := nm_s hF ev52
  refine lv_iinc (v := v51) (lv' := [(3, .int v51), (2, .int v49), (0, .ref x0)]) hx hb dX5_look_90 hl (k := 2) rfl (by rw [ev52]; rfl) (by decide) rfl (fun ls hl => ?_)
  refine lv_goto (tgt := 65) hx hb dX5_look_93 (by decide) ?_
  exact hk65 _ _ _ _ _ _ _ hp (lv_sub hl [2, 1, 0] rfl) hF
def fb_X5_look_65 (S : mSh) : Nat → mMm → Nat → Int32 → Int32 → Option (Int32 × mMm)
  | 0, _, _, _, _ => none
  | t + 1, M, x0, x2, x3 => (if (144 : Int32) ≤ x3 then some (x2, M) else ob (rR S M x0 6 1) fun v44 => ob (aI S M v44 100 x3) fun v46 => (if v46 = (1 : Int32) then (fb_X5_look_88 S (fb_X5_look_65 S t) M x0 x3 (1 : Int32) x2) else (fb_X5_look_88 S (fb_X5_look_65 S t) M x0 x3 (0 : Int32) x2)))
theorem b_X5_look_65 {r : Int32} {M' : mMm} (X : mCx D n0 P p m c cX5_look 4 s args yX5_look.cls meth (some .int)) : ∀ t : Nat, ∀ (M : mMm) (x0 : Nat) (x2 : Int32) (x3 : Int32) (H : Heap) (locs : List Loc) (ls : Array Slot), mHp D n0 S M n s H locs → lv_has ls 4 [(0, .ref x0), (2, .int x2), (3, .int x3)] → fb_X5_look_65 S t M x0 x2 x3 = some (r, M') → W p l e Rm_X5_look s m args below meth c H locs 0 0 (MQ below (mQ D n0 (some (.int r)) S M' n) args s 0 0 (mA n0)) (F0 m 65 ls []) := by
  have hx := X.1.1
  have hb := X.1.2.1
  have hown := X.1.2.2.2.1
  have hts := X.1.2.2.2.2
  intro t
  induction t with
  | zero =>
    intro M x0 x2 x3 H locs ls hp hl hF
    have hF : none = some (r, M') := hF
    cases hF
  | succ t ih =>
    intro M x0 x2 x3 H locs ls hp hl hF
    rw [fb_X5_look_65] at hF
    refine lv_iload_n hx hb dX5_look_65 rfl (lv_at hl 2 rfl) ?_
    refine lv_sipush (v := 144) hx hb dX5_look_66 (by decide) ?_
    refine lv_icmp_ge (tgt := 96) hx hb dX5_look_69 (by decide) (fun c43 => ?_) (fun c43 => ?_)
    · have hF := if_p c43 hF
      refine lv_iload_n hx hb dX5_look_96 rfl (lv_at hl 1 rfl) ?_
      cases hF
      exact m_iret X hp dX5_look_97
    · have hF := if_n c43 hF
      refine lv_iload_n hx hb dX5_look_72 rfl (lv_at hl 1 rfl) ?_
      refine lv_aload_n hx hb dX5_look_73 rfl (lv_at hl 0 rfl) ?_
      obtain ⟨v44, e45, hF⟩ := ob_s hF
      refine m_getR X hp e45 kX5 (Nat.le_of_ble_eq_true rfl) q1460 dX5_look_74 ?_
      refine lv_iload_n hx hb dX5_look_77 rfl (lv_at hl 2 rfl) ?_
      obtain ⟨v46, e47, hF⟩ := ob_s hF
      refine m_iaI X hp e47 dX5_look_78 ?_
      refine lv_iconst (v := 1) hx hb dX5_look_79 (by decide) ?_
      refine lv_icmp_ne (tgt := 87) hx hb dX5_look_80 (by decide) (fun c48 => ?_) (fun c48 => ?_)
      · have hF := if_n c48 hF
        refine lv_iconst (v := 0) hx hb dX5_look_87 (by decide) ?_
        exact b_X5_look_88 X _ ih _ _ _ _ _ _ _ _ hp (lv_sub hl [0, 2] rfl) hF
      · have hF := if_p c48 hF
        refine lv_iconst (v := 1) hx hb dX5_look_83 (by decide) ?_
        refine lv_goto (tgt := 88) hx hb dX5_look_84 (by decide) ?_
        exact b_X5_look_88 X _ ih _ _ _ _ _ _ _ _ hp (lv_sub hl [0, 2] rfl) hF
def fb_X5_look_181 (S : mSh) (M : mMm) (y0 : Int32) (y1 : Nat) : Option (Int32 × mMm) := ob (aI S M y1 100 y0) fun v53 => some (v53, M)
theorem b_X5_look_181 {r : Int32} {M' : mMm} (X : mCx D n0 P p m c cX5_look 4 s args yX5_look.cls meth (some .int)) : ∀ (M : mMm) (y0 : Int32) (y1 : Nat) (H : Heap) (locs : List Loc) (ls : Array Slot), mHp D n0 S M n s H locs → lv_has ls 4 [] → fb_X5_look_181 S M y0 y1 = some (r, M') → W p l e Rm_X5_look s m args below meth c H locs 0 0 (MQ below (mQ D n0 (some (.int r)) S M' n) args s 0 0 (mA n0)) (F0 m 181 ls [.int y0, .ref y1]) := by
  have hx := X.1.1
  have hb := X.1.2.1
  have hown := X.1.2.2.2.1
  have hts := X.1.2.2.2.2
  intro M y0 y1 H locs ls hp hl hF
  unfold fb_X5_look_181 at hF
  obtain ⟨v53, e54, hF⟩ := ob_s hF
  refine m_iaI X hp e54 dX5_look_181 ?_
  cases hF
  exact m_iret X hp dX5_look_182
def f_X5_look (S : mSh) (M : mMm) (x0 : Nat) (x1 : Int32) : Option (Int32 × mMm) := ob (f_X5_within x1 (0 : Int32) (11 : Int32)) fun v2 => (if v2 = 0 then some ((-1 : Int32), M) else gd ((S x0).1 = 6) (ob (f_X5_take S M x0) fun M7 => (if x1 = (1 : Int32) then nm ((0 : Int32)) fun v28 => nm ((0 : Int32)) fun v30 => (fb_X5_look_25 S FU M7 x0 v28 v30) else (if x1 = (4 : Int32) then nm ((0 : Int32)) fun v24 => nm ((0 : Int32)) fun v26 => (fb_X5_look_65 S FU M7 x0 v24 v26) else (if x1 ≤ (6 : Int32) then ob (rR S M7 x0 6 1) fun v11 => (if x1 = 0 then (fb_X5_look_181 S M7  (940 : Int32) v11) else (if x1 = (2 : Int32) then (fb_X5_look_181 S M7  (936 : Int32) v11) else (if x1 = (3 : Int32) then (fb_X5_look_181 S M7  (937 : Int32) v11) else (if x1 = (5 : Int32) then (fb_X5_look_181 S M7  (939 : Int32) v11) else (fb_X5_look_181 S M7  (938 : Int32) v11))))) else (if x1 = (11 : Int32) then ob (rI S M7 x0 6 4) fun v22 => some (v22, M7) else ob (rR S M7 x0 6 1) fun v18 => ob (aI S M7 v18 100 (((941 : Int32) + x1) - (7 : Int32))) fun v20 => some (v20, M7)))))))
theorem w_X5_look {x0 : Nat} {x1 : Int32} {r : Int32} {M' : mMm} (hF : f_X5_look S M x0 x1 = some (r, M')) : mCt l D n0 P yX5_look cX5_look 4 (some .int) 2 43 0 0 [.ref x0, .int x1] S M n (some (.int r)) S M' n := by
  refine m_ofW (by decide) (Nat.le_of_ble_eq_true rfl) (fun p e s m below meth c X hnm hp ls hl => ?_)
  have hx := X.1.1
  have hb := X.1.2.1
  have hown := X.1.2.2.2.1
  have hts := X.1.2.2.2.2
  have hl : lv_has ls 4 [(0, .ref x0), (1, .int x1)] := hl
  unfold f_X5_look at hF
  refine lv_iload_n hx hb dX5_look_0 rfl (lv_at hl 1 rfl) ?_
  refine lv_iconst (v := 0) hx hb dX5_look_1 (by decide) ?_
  refine lv_bipush (v := 11) hx hb dX5_look_2 (by decide) ?_
  obtain ⟨v2, e1, hF⟩ := ob_s hF
  refine m_callS (As := [.int x1, .int (0 : Int32), .int (11 : Int32)]) (rest := []) X hp (w_X5_within e1) q1588 q1589 q144 q1590 3 rfl ds_X5_within ⟨Nat.le_of_ble_eq_true rfl, Nat.le_of_ble_eq_true rfl⟩ hl.1 rfl (Nat.le_of_ble_eq_true rfl) dX5_look_4 ⟨Nat.le_refl 0, Nat.le_refl 0⟩ (fun H locs hp => ?_)
  refine lv_if_ne (tgt := 12) hx hb dX5_look_7 (by decide) (fun c3 => ?_) (fun c3 => ?_)
  · have hF := if_n c3 hF
    refine lv_aload_n hx hb dX5_look_12 rfl (lv_at hl 0 rfl) ?_
    obtain ⟨g4, hF⟩ := gd_s hF
    obtain ⟨M7, e5, hF⟩ := ob_s hF
    refine m_callV (As := []) (rest := []) X hp (w_X5_take e5) q1871 q1873 qs112 q144 q1874 0 rfl ds_X5_take ⟨Nat.le_of_ble_eq_true rfl, Nat.le_of_ble_eq_true rfl⟩ 6 (T := TX5) (N := 40) rfl (by decide) g4 hl.1 rfl (Nat.le_of_ble_eq_true rfl) dX5_look_13 ⟨Nat.le_refl 0, Nat.le_refl 0⟩ (fun H locs hp => ?_)
    refine lv_iload_n hx hb dX5_look_16 rfl (lv_at hl 1 rfl) ?_
    refine lv_iconst (v := 1) hx hb dX5_look_17 (by decide) ?_
    refine lv_icmp_ne (tgt := 56) hx hb dX5_look_18 (by decide) (fun c8 => ?_) (fun c8 => ?_)
    · have hF := if_n c8 hF
      refine lv_iload_n hx hb dX5_look_56 rfl (lv_at hl 1 rfl) ?_
      refine lv_iconst (v := 4) hx hb dX5_look_57 (by decide) ?_
      refine lv_icmp_ne (tgt := 98) hx hb dX5_look_58 (by decide) (fun c9 => ?_) (fun c9 => ?_)
      · have hF := if_n c9 hF
        refine lv_iload_n hx hb dX5_look_98 rfl (lv_at hl 1 rfl) ?_
        refine lv_bipush (v := 6) hx hb dX5_look_99 (by decide) ?_
        refine lv_icmp_le (tgt := 131) hx hb dX5_look_101 (by decide) (fun c10 => ?_) (fun c10 => ?_)
        · have hF := if_p c10 hF
          refine lv_aload_n hx hb dX5_look_131 rfl (lv_at hl 0 rfl) ?_
          obtain ⟨v11, e12, hF⟩ := ob_s hF
          refine m_getR X hp e12 kX5 (Nat.le_of_ble_eq_true rfl) q1460 dX5_look_132 ?_
          refine lv_iload_n hx hb dX5_look_135 rfl (lv_at hl 1 rfl) ?_
          refine lv_if_ne (tgt := 145) hx hb dX5_look_136 (by decide) (fun c13 => ?_) (fun c13 => ?_)
          · have hF := if_n c13 hF
            refine lv_iload_n hx hb dX5_look_145 rfl (lv_at hl 1 rfl) ?_
            refine lv_iconst (v := 2) hx hb dX5_look_146 (by decide) ?_
            refine lv_icmp_ne (tgt := 156) hx hb dX5_look_147 (by decide) (fun c14 => ?_) (fun c14 => ?_)
            · have hF := if_n c14 hF
              refine lv_iload_n hx hb dX5_look_156 rfl (lv_at hl 1 rfl) ?_
              refine lv_iconst (v := 3) hx hb dX5_look_157 (by decide) ?_
              refine lv_icmp_ne (tgt := 167) hx hb dX5_look_158 (by decide) (fun c15 => ?_) (fun c15 => ?_)
              · have hF := if_n c15 hF
                refine lv_iload_n hx hb dX5_look_167 rfl (lv_at hl 1 rfl) ?_
                refine lv_iconst (v := 5) hx hb dX5_look_168 (by decide) ?_
                refine lv_icmp_ne (tgt := 178) hx hb dX5_look_169 (by decide) (fun c16 => ?_) (fun c16 => ?_)
                · have hF := if_n c16 hF
                  refine lv_sipush (v := 938) hx hb dX5_look_178 (by decide) ?_
                  exact b_X5_look_181 X _  _ _ _ _ _ hp (lv_sub hl [] rfl) hF
                · have hF := if_p c16 hF
                  refine lv_sipush (v := 939) hx hb dX5_look_172 (by decide) ?_
                  refine lv_goto (tgt := 181) hx hb dX5_look_175 (by decide) ?_
                  exact b_X5_look_181 X _  _ _ _ _ _ hp (lv_sub hl [] rfl) hF
              · have hF := if_p c15 hF
                refine lv_sipush (v := 937) hx hb dX5_look_161 (by decide) ?_
                refine lv_goto (tgt := 181) hx hb dX5_look_164 (by decide) ?_
                exact b_X5_look_181 X _  _ _ _ _ _ hp (lv_sub hl [] rfl) hF
            · have hF := if_p c14 hF
              refine lv_sipush (v := 936) hx hb dX5_look_150 (by decide) ?_
              refine lv_goto (tgt := 181) hx hb dX5_look_153 (by decide) ?_
              exact b_X5_look_181 X _  _ _ _ _ _ hp (lv_sub hl [] rfl) hF
          · have hF := if_p c13 hF
            refine lv_sipush (v := 940) hx hb dX5_look_139 (by decide) ?_
            refine lv_goto (tgt := 181) hx hb dX5_look_142 (by decide) ?_
            exact b_X5_look_181 X _  _ _ _ _ _ hp (lv_sub hl [] rfl) hF
        · have hF := if_n c10 hF
          refine lv_iload_n hx hb dX5_look_104 rfl (lv_at hl 1 rfl) ?_
          refine lv_bipush (v := 11) hx hb dX5_look_105 (by decide) ?_
          refine lv_icmp_ne (tgt := 117) hx hb dX5_look_107 (by decide) (fun c17 => ?_) (fun c17 => ?_)
          · have hF := if_n c17 hF
            refine lv_aload_n hx hb dX5_look_117 rfl (lv_at hl 0 rfl) ?_
            obtain ⟨v18, e19, hF⟩ := ob_s hF
            refine m_getR X hp e19 kX5 (Nat.le_of_ble_eq_true rfl) q1460 dX5_look_118 ?_
            refine lv_sipush (v := 941) hx hb dX5_look_121 (by decide) ?_
            refine lv_iload_n hx hb dX5_look_124 rfl (lv_at hl 1 rfl) ?_
            refine lv_iadd hx hb dX5_look_125 ?_
            refine lv_bipush (v := 7) hx hb dX5_look_126 (by decide) ?_
            refine lv_isub hx hb dX5_look_128 ?_
            obtain ⟨v20, e21, hF⟩ := ob_s hF
            refine m_iaI X hp e21 dX5_look_129 ?_
            cases hF
            exact m_iret X hp dX5_look_130
          · have hF := if_p c17 hF
            refine lv_aload_n hx hb dX5_look_110 rfl (lv_at hl 0 rfl) ?_
            obtain ⟨v22, e23, hF⟩ := ob_s hF
            refine m_getI X hp e23 kX5 (Nat.le_of_ble_eq_true rfl) q1463 dX5_look_111 ?_
            refine lv_goto (tgt := 130) hx hb dX5_look_114 (by decide) ?_
            cases hF
            exact m_iret X hp dX5_look_130
      · have hF := if_p c9 hF
        refine lv_iconst (v := 0) hx hb dX5_look_61 (by decide) ?_
        refine lv_topi (fun v24 ev25 => ?_)
        have hF := nm_s hF ev25
        refine lv_istore_n (lv' := [(2, .int v24), (0, .ref x0), (1, .int x1)]) hx hb dX5_look_62 rfl hl (by decide) rfl (fun ls hl => ?_)
        refine lv_iconst (v := 0) hx hb dX5_look_63 (by decide) ?_
        refine lv_topi (fun v26 ev27 => ?_)
        have hF := nm_s hF ev27
        refine lv_istore_n (lv' := [(3, .int v26), (2, .int v24), (0, .ref x0), (1, .int x1)]) hx hb dX5_look_64 rfl hl (by decide) rfl (fun ls hl => ?_)
        exact b_X5_look_65 X _ _ _ _ _ _ _ _ hp (lv_sub hl [2, 1, 0] rfl) hF
    · have hF := if_p c8 hF
      refine lv_iconst (v := 0) hx hb dX5_look_21 (by decide) ?_
      refine lv_topi (fun v28 ev29 => ?_)
      have hF := nm_s hF ev29
      refine lv_istore_n (lv' := [(2, .int v28), (0, .ref x0), (1, .int x1)]) hx hb dX5_look_22 rfl hl (by decide) rfl (fun ls hl => ?_)
      refine lv_iconst (v := 0) hx hb dX5_look_23 (by decide) ?_
      refine lv_topi (fun v30 ev31 => ?_)
      have hF := nm_s hF ev31
      refine lv_istore_n (lv' := [(3, .int v30), (2, .int v28), (0, .ref x0), (1, .int x1)]) hx hb dX5_look_24 rfl hl (by decide) rfl (fun ls hl => ?_)
      exact b_X5_look_25 X _ _ _ _ _ _ _ _ hp (lv_sub hl [2, 1, 0] rfl) hF
  · have hF := if_p c3 hF
    refine lv_iconst (v := -1) hx hb dX5_look_10 (by decide) ?_
    cases hF
    exact m_iret X hp dX5_look_11
end
section
variable {l : Launch} {D : va_G} {n0 : Nat} {P : mP} {S : mSh} {M : mMm} {n : Nat} {p : Program} {e : Env} {s : State} {m : MethodId} {args : Array Value} {below : List Frame} {meth : Method} {c : Code}
abbrev Rm_X5_wrong : Room := { frames := 0, cells := 0, slots := 0, locals := 0 }
def f_X5_wrong (S : mSh) (M : mMm) (x0 : Nat) (x1 : Int32) (x2 : Int32) : Option mMm := ob (rI S M x0 6 10) fun v1 => (if v1 = (-1 : Int32) then ob (wF S M x0 6 10 (.int x2)) fun M4 => ob (wF S M4 x0 6 11 (.int x1)) fun M6 => some M6 else some M)
theorem w_X5_wrong {x0 : Nat} {x1 : Int32} {x2 : Int32} {M' : mMm} (hF : f_X5_wrong S M x0 x1 x2 = some M') : mCt l D n0 P yX5_wrong cX5_wrong 3 none 0 0 0 0 [.ref x0, .int x1, .int x2] S M n none S M' n := by
  refine m_ofW (by decide) (Nat.le_of_ble_eq_true rfl) (fun p e s m below meth c X hnm hp ls hl => ?_)
  have hx := X.1.1
  have hb := X.1.2.1
  have hown := X.1.2.2.2.1
  have hts := X.1.2.2.2.2
  have hl : lv_has ls 3 [(0, .ref x0), (1, .int x1), (2, .int x2)] := hl
  unfold f_X5_wrong at hF
  refine lv_aload_n hx hb dX5_wrong_0 rfl (lv_at hl 0 rfl) ?_
  obtain ⟨v1, e2, hF⟩ := ob_s hF
  refine m_getI X hp e2 kX5 (Nat.le_of_ble_eq_true rfl) q1469 dX5_wrong_1 ?_
  refine lv_iconst (v := -1) hx hb dX5_wrong_4 (by decide) ?_
  refine lv_icmp_eq (tgt := 9) hx hb dX5_wrong_5 (by decide) (fun c3 => ?_) (fun c3 => ?_)
  · have hF := if_p c3 hF
    refine lv_aload_n hx hb dX5_wrong_9 rfl (lv_at hl 0 rfl) ?_
    refine lv_iload_n hx hb dX5_wrong_10 rfl (lv_at hl 2 rfl) ?_
    obtain ⟨M4, e5, hF⟩ := ob_s hF
    refine m_putW X hp e5 kX5 (Nat.le_of_ble_eq_true rfl) q1469 rfl rfl rfl dX5_wrong_11 (fun H locs hp => ?_)
    refine lv_aload_n hx hb dX5_wrong_14 rfl (lv_at hl 0 rfl) ?_
    refine lv_iload_n hx hb dX5_wrong_15 rfl (lv_at hl 1 rfl) ?_
    obtain ⟨M6, e7, hF⟩ := ob_s hF
    refine m_putW X hp e7 kX5 (Nat.le_of_ble_eq_true rfl) q1470 rfl rfl rfl dX5_wrong_16 (fun H locs hp => ?_)
    cases hF
    exact m_vret X hp dX5_wrong_19
  · have hF := if_n c3 hF
    cases hF
    exact m_vret X hp dX5_wrong_8
end
section
variable {l : Launch} {D : va_G} {n0 : Nat} {P : mP} {S : mSh} {M : mMm} {n : Nat} {p : Program} {e : Env} {s : State} {m : MethodId} {args : Array Value} {below : List Frame} {meth : Method} {c : Code}
abbrev Rm_X5_mayBegin : Room := { frames := 2, cells := 0, slots := 0, locals := 40 }
def fb_X5_mayBegin_29 (S : mSh) (M : mMm) (x0 : Nat) : Option mMm := gd ((S x0).1 = 6) (ob (f_X5_fine S M x0) fun v15 => (if v15 = 0 then some M else ob (f_X5_pass S M x0) fun M19 => some M19))
theorem b_X5_mayBegin_29 {M' : mMm} (X : mCx D n0 P p m c cX5_mayBegin 3 s args yX5_mayBegin.cls meth none) : ∀ (M : mMm) (x0 : Nat) (H : Heap) (locs : List Loc) (ls : Array Slot), mHp D n0 S M n s H locs → lv_has ls 3 [(0, .ref x0)] → fb_X5_mayBegin_29 S M x0 = some M' → W p l e Rm_X5_mayBegin s m args below meth c H locs 0 0 (MQ below (mQ D n0 none S M' n) args s 0 0 (mA n0)) (F0 m 29 ls []) := by
  have hx := X.1.1
  have hb := X.1.2.1
  have hown := X.1.2.2.2.1
  have hts := X.1.2.2.2.2
  intro M x0 H locs ls hp hl hF
  unfold fb_X5_mayBegin_29 at hF
  refine lv_aload_n hx hb dX5_mayBegin_29 rfl (lv_at hl 0 rfl) ?_
  obtain ⟨g13, hF⟩ := gd_s hF
  obtain ⟨v15, e14, hF⟩ := ob_s hF
  refine m_callV (As := []) (rest := []) X hp (w_X5_fine e14) q1598 q1600 qs64 q144 q1601 0 rfl ds_X5_fine ⟨Nat.le_of_ble_eq_true rfl, Nat.le_of_ble_eq_true rfl⟩ 6 (T := TX5) (N := 40) rfl (by decide) g13 hl.1 rfl (Nat.le_of_ble_eq_true rfl) dX5_mayBegin_30 ⟨Nat.le_refl 0, Nat.le_refl 0⟩ (fun H locs hp => ?_)
  refine lv_if_eq (tgt := 40) hx hb dX5_mayBegin_33 (by decide) (fun c16 => ?_) (fun c16 => ?_)
  · have hF := if_p c16 hF
    cases hF
    exact m_vret X hp dX5_mayBegin_40
  · have hF := if_n c16 hF
    refine lv_aload_n hx hb dX5_mayBegin_36 rfl (lv_at hl 0 rfl) ?_
    obtain ⟨M19, e17, hF⟩ := ob_s hF
    refine m_callV (As := []) (rest := []) X hp (w_X5_pass e17) q1631 q1633 qs70 q144 q1634 0 rfl ds_X5_pass ⟨Nat.le_of_ble_eq_true rfl, Nat.le_of_ble_eq_true rfl⟩ 6 (T := TX5) (N := 40) rfl (by decide) g13 hl.1 rfl (Nat.le_of_ble_eq_true rfl) dX5_mayBegin_37 ⟨Nat.le_refl 0, Nat.le_refl 0⟩ (fun H locs hp => ?_)
    cases hF
    exact m_vret X hp dX5_mayBegin_40
def f_X5_mayBegin (S : mSh) (M : mMm) (x0 : Nat) (x1 : Int32) (x2 : Int32) : Option mMm := (if x1 = 0 then ob (rI S M x0 6 9) fun v8 => ob (f_X5_wrong S M x0 (1 : Int32) v8) fun M12 => (fb_X5_mayBegin_29 S M12 x0) else (if x2 = 0 then (fb_X5_mayBegin_29 S M x0) else ob (rI S M x0 6 9) fun v3 => ob (f_X5_wrong S M x0 (3 : Int32) v3) fun M7 => (fb_X5_mayBegin_29 S M7 x0)))
theorem w_X5_mayBegin {x0 : Nat} {x1 : Int32} {x2 : Int32} {M' : mMm} (hF : f_X5_mayBegin S M x0 x1 x2 = some M') : mCt l D n0 P yX5_mayBegin cX5_mayBegin 3 none 2 40 0 0 [.ref x0, .int x1, .int x2] S M n none S M' n := by
  refine m_ofW (by decide) (Nat.le_of_ble_eq_true rfl) (fun p e s m below meth c X hnm hp ls hl => ?_)
  have hx := X.1.1
  have hb := X.1.2.1
  have hown := X.1.2.2.2.1
  have hts := X.1.2.2.2.2
  have hl : lv_has ls 3 [(0, .ref x0), (1, .int x1), (2, .int x2)] := hl
  unfold f_X5_mayBegin at hF
  refine lv_iload_n hx hb dX5_mayBegin_0 rfl (lv_at hl 1 rfl) ?_
  refine lv_if_ne (tgt := 16) hx hb dX5_mayBegin_1 (by decide) (fun c1 => ?_) (fun c1 => ?_)
  · have hF := if_n c1 hF
    refine lv_iload_n hx hb dX5_mayBegin_16 rfl (lv_at hl 2 rfl) ?_
    refine lv_if_eq (tgt := 29) hx hb dX5_mayBegin_17 (by decide) (fun c2 => ?_) (fun c2 => ?_)
    · have hF := if_p c2 hF
      exact b_X5_mayBegin_29 X _ _ _ _ _ hp (lv_sub hl [0] rfl) hF
    · have hF := if_n c2 hF
      refine lv_aload_n hx hb dX5_mayBegin_20 rfl (lv_at hl 0 rfl) ?_
      refine lv_iconst (v := 3) hx hb dX5_mayBegin_21 (by decide) ?_
      refine lv_aload_n hx hb dX5_mayBegin_22 rfl (lv_at hl 0 rfl) ?_
      obtain ⟨v3, e4, hF⟩ := ob_s hF
      refine m_getI X hp e4 kX5 (Nat.le_of_ble_eq_true rfl) q1468 dX5_mayBegin_23 ?_
      obtain ⟨M7, e5, hF⟩ := ob_s hF
      refine m_callV (As := [.int (3 : Int32), .int v3]) (rest := []) X hp (w_X5_wrong e5) q1627 q1629 qs69 q144 q1630 2 rfl ds_X5_wrong ⟨Nat.le_of_ble_eq_true rfl, Nat.le_of_ble_eq_true rfl⟩ 6 (T := TX5) (N := 40) rfl (by decide) (rI_s e4).1 hl.1 rfl (Nat.le_of_ble_eq_true rfl) dX5_mayBegin_26 ⟨Nat.le_refl 0, Nat.le_refl 0⟩ (fun H locs hp => ?_)
      exact b_X5_mayBegin_29 X _ _ _ _ _ hp (lv_sub hl [0] rfl) hF
  · have hF := if_p c1 hF
    refine lv_aload_n hx hb dX5_mayBegin_4 rfl (lv_at hl 0 rfl) ?_
    refine lv_iconst (v := 1) hx hb dX5_mayBegin_5 (by decide) ?_
    refine lv_aload_n hx hb dX5_mayBegin_6 rfl (lv_at hl 0 rfl) ?_
    obtain ⟨v8, e9, hF⟩ := ob_s hF
    refine m_getI X hp e9 kX5 (Nat.le_of_ble_eq_true rfl) q1468 dX5_mayBegin_7 ?_
    obtain ⟨M12, e10, hF⟩ := ob_s hF
    refine m_callV (As := [.int (1 : Int32), .int v8]) (rest := []) X hp (w_X5_wrong e10) q1627 q1629 qs69 q144 q1630 2 rfl ds_X5_wrong ⟨Nat.le_of_ble_eq_true rfl, Nat.le_of_ble_eq_true rfl⟩ 6 (T := TX5) (N := 40) rfl (by decide) (rI_s e9).1 hl.1 rfl (Nat.le_of_ble_eq_true rfl) dX5_mayBegin_10 ⟨Nat.le_refl 0, Nat.le_refl 0⟩ (fun H locs hp => ?_)
    refine lv_goto (tgt := 29) hx hb dX5_mayBegin_13 (by decide) ?_
    exact b_X5_mayBegin_29 X _ _ _ _ _ hp (lv_sub hl [0] rfl) hF
end
section
variable {l : Launch} {D : va_G} {n0 : Nat} {P : mP} {S : mSh} {M : mMm} {n : Nat} {p : Program} {e : Env} {s : State} {m : MethodId} {args : Array Value} {below : List Frame} {meth : Method} {c : Code}
abbrev Rm_X5_meets : Room := { frames := 3, cells := 0, slots := 0, locals := 70 }
def fb_X5_meets_24 (S : mSh) : Nat → mMm → Nat → Int32 → Int32 → Int32 → Option (Int32 × mMm)
  | 0, _, _, _, _, _ => none
  | t + 1, M, x0, x1, x2, x3 => (if (60 : Int32) < x3 then some ((-1 : Int32), M) else gd ((S x0).1 = 6) (ob (f_X5_has S M x0 x1 (1 : Int32)) fun v16 => (if v16 = 0 then some ((-1 : Int32), M) else ob (f_X5_has S M x0 x2 (1 : Int32)) fun v19 => (if v19 = 0 then some ((-1 : Int32), M) else ob (f_X5_standsAt S M x0 x1) fun v22 => ob (f_X5_standsAt S M x0 x2) fun v24 => (if v22 = v24 then some (x3, M) else ob (f_X5_goesAlone S M x0 x1) fun M28 => ob (f_X5_goesAlone S M28 x0 x2) fun M31 => nm (x3 + (1 : Int32)) fun v32 => (fb_X5_meets_24 S t M31 x0 x1 x2 v32))))))
theorem b_X5_meets_24 {r : Int32} {M' : mMm} (X : mCx D n0 P p m c cX5_meets 4 s args yX5_meets.cls meth (some .int)) : ∀ t : Nat, ∀ (M : mMm) (x0 : Nat) (x1 : Int32) (x2 : Int32) (x3 : Int32) (H : Heap) (locs : List Loc) (ls : Array Slot), mHp D n0 S M n s H locs → lv_has ls 4 [(0, .ref x0), (1, .int x1), (2, .int x2), (3, .int x3)] → fb_X5_meets_24 S t M x0 x1 x2 x3 = some (r, M') → W p l e Rm_X5_meets s m args below meth c H locs 0 0 (MQ below (mQ D n0 (some (.int r)) S M' n) args s 0 0 (mA n0)) (F0 m 24 ls []) := by
  have hx := X.1.1
  have hb := X.1.2.1
  have hown := X.1.2.2.2.1
  have hts := X.1.2.2.2.2
  intro t
  induction t with
  | zero =>
    intro M x0 x1 x2 x3 H locs ls hp hl hF
    have hF : none = some (r, M') := hF
    cases hF
  | succ t ih =>
    intro M x0 x1 x2 x3 H locs ls hp hl hF
    rw [fb_X5_meets_24] at hF
    refine lv_iload_n hx hb dX5_meets_24 rfl (lv_at hl 3 rfl) ?_
    refine lv_bipush (v := 60) hx hb dX5_meets_25 (by decide) ?_
    refine lv_icmp_gt (tgt := 81) hx hb dX5_meets_27 (by decide) (fun c13 => ?_) (fun c13 => ?_)
    · have hF := if_p c13 hF
      refine lv_iconst (v := -1) hx hb dX5_meets_81 (by decide) ?_
      cases hF
      exact m_iret X hp dX5_meets_82
    · have hF := if_n c13 hF
      refine lv_aload_n hx hb dX5_meets_30 rfl (lv_at hl 0 rfl) ?_
      refine lv_iload_n hx hb dX5_meets_31 rfl (lv_at hl 1 rfl) ?_
      refine lv_iconst (v := 1) hx hb dX5_meets_32 (by decide) ?_
      obtain ⟨g14, hF⟩ := gd_s hF
      obtain ⟨v16, e15, hF⟩ := ob_s hF
      refine m_callV (As := [.int x1, .int (1 : Int32)]) (rest := []) X hp (w_X5_has e15) q1727 q1729 qs89 q144 q1730 2 rfl ds_X5_has ⟨Nat.le_of_ble_eq_true rfl, Nat.le_of_ble_eq_true rfl⟩ 6 (T := TX5) (N := 40) rfl (by decide) g14 hl.1 rfl (Nat.le_of_ble_eq_true rfl) dX5_meets_33 ⟨Nat.le_refl 0, Nat.le_refl 0⟩ (fun H locs hp => ?_)
      refine lv_if_eq (tgt := 48) hx hb dX5_meets_36 (by decide) (fun c17 => ?_) (fun c17 => ?_)
      · have hF := if_p c17 hF
        refine lv_iconst (v := -1) hx hb dX5_meets_48 (by decide) ?_
        cases hF
        exact m_iret X hp dX5_meets_49
      · have hF := if_n c17 hF
        refine lv_aload_n hx hb dX5_meets_39 rfl (lv_at hl 0 rfl) ?_
        refine lv_iload_n hx hb dX5_meets_40 rfl (lv_at hl 2 rfl) ?_
        refine lv_iconst (v := 1) hx hb dX5_meets_41 (by decide) ?_
        obtain ⟨v19, e18, hF⟩ := ob_s hF
        refine m_callV (As := [.int x2, .int (1 : Int32)]) (rest := []) X hp (w_X5_has e18) q1727 q1729 qs89 q144 q1730 2 rfl ds_X5_has ⟨Nat.le_of_ble_eq_true rfl, Nat.le_of_ble_eq_true rfl⟩ 6 (T := TX5) (N := 40) rfl (by decide) g14 hl.1 rfl (Nat.le_of_ble_eq_true rfl) dX5_meets_42 ⟨Nat.le_refl 0, Nat.le_refl 0⟩ (fun H locs hp => ?_)
        refine lv_if_ne (tgt := 50) hx hb dX5_meets_45 (by decide) (fun c20 => ?_) (fun c20 => ?_)
        · have hF := if_n c20 hF
          refine lv_aload_n hx hb dX5_meets_50 rfl (lv_at hl 0 rfl) ?_
          refine lv_iload_n hx hb dX5_meets_51 rfl (lv_at hl 1 rfl) ?_
          obtain ⟨v22, e21, hF⟩ := ob_s hF
          refine m_callV (As := [.int x1]) (rest := []) X hp (w_X5_standsAt e21) q1750 q1752 qs94 q144 q1753 1 rfl ds_X5_standsAt ⟨Nat.le_of_ble_eq_true rfl, Nat.le_of_ble_eq_true rfl⟩ 6 (T := TX5) (N := 40) rfl (by decide) g14 hl.1 rfl (Nat.le_of_ble_eq_true rfl) dX5_meets_52 ⟨Nat.le_refl 0, Nat.le_refl 0⟩ (fun H locs hp => ?_)
          refine lv_aload_n hx hb dX5_meets_55 rfl (lv_at hl 0 rfl) ?_
          refine lv_iload_n hx hb dX5_meets_56 rfl (lv_at hl 2 rfl) ?_
          obtain ⟨v24, e23, hF⟩ := ob_s hF
          refine m_callV (As := [.int x2]) (rest := [.int v22]) X hp (w_X5_standsAt e23) q1750 q1752 qs94 q144 q1753 1 rfl ds_X5_standsAt ⟨Nat.le_of_ble_eq_true rfl, Nat.le_of_ble_eq_true rfl⟩ 6 (T := TX5) (N := 40) rfl (by decide) g14 hl.1 rfl (Nat.le_of_ble_eq_true rfl) dX5_meets_57 ⟨Nat.le_refl 0, Nat.le_refl 0⟩ (fun H locs hp => ?_)
          refine lv_icmp_ne (tgt := 65) hx hb dX5_meets_60 (by decide) (fun c25 => ?_) (fun c25 => ?_)
          · have hF := if_n c25 hF
            refine lv_aload_n hx hb dX5_meets_65 rfl (lv_at hl 0 rfl) ?_
            refine lv_iload_n hx hb dX5_meets_66 rfl (lv_at hl 1 rfl) ?_
            obtain ⟨M28, e26, hF⟩ := ob_s hF
            refine m_callV (As := [.int x1]) (rest := []) X hp (w_X5_goesAlone e26) q1899 q1901 qs113 q144 q1902 1 rfl ds_X5_goesAlone ⟨Nat.le_of_ble_eq_true rfl, Nat.le_of_ble_eq_true rfl⟩ 6 (T := TX5) (N := 40) rfl (by decide) g14 hl.1 rfl (Nat.le_of_ble_eq_true rfl) dX5_meets_67 ⟨Nat.le_refl 0, Nat.le_refl 0⟩ (fun H locs hp => ?_)
            refine lv_aload_n hx hb dX5_meets_70 rfl (lv_at hl 0 rfl) ?_
            refine lv_iload_n hx hb dX5_meets_71 rfl (lv_at hl 2 rfl) ?_
            obtain ⟨M31, e29, hF⟩ := ob_s hF
            refine m_callV (As := [.int x2]) (rest := []) X hp (w_X5_goesAlone e29) q1899 q1901 qs113 q144 q1902 1 rfl ds_X5_goesAlone ⟨Nat.le_of_ble_eq_true rfl, Nat.le_of_ble_eq_true rfl⟩ 6 (T := TX5) (N := 40) rfl (by decide) g14 hl.1 rfl (Nat.le_of_ble_eq_true rfl) dX5_meets_72 ⟨Nat.le_refl 0, Nat.le_refl 0⟩ (fun H locs hp => ?_)
            obtain ⟨v32, ev33⟩ : ∃ y : Int32, y = x3 + (1 : Int32) := ⟨_, rfl⟩
            have hF := nm_s hF ev33
            refine lv_iinc (v := v32) (lv' := [(3, .int v32), (0, .ref x0), (1, .int x1), (2, .int x2)]) hx hb dX5_meets_75 hl (k := 3) rfl (by rw [ev33]; rfl) (by decide) rfl (fun ls hl => ?_)
            refine lv_goto (tgt := 24) hx hb dX5_meets_78 (by decide) ?_
            exact ih _ _ _ _ _ _ _ _ hp (lv_sub hl [1, 2, 3, 0] rfl) hF
          · have hF := if_p c25 hF
            refine lv_iload_n hx hb dX5_meets_63 rfl (lv_at hl 3 rfl) ?_
            cases hF
            exact m_iret X hp dX5_meets_64
        · have hF := if_p c20 hF
          refine lv_iconst (v := -1) hx hb dX5_meets_48 (by decide) ?_
          cases hF
          exact m_iret X hp dX5_meets_49
def f_X5_meets (S : mSh) (M : mMm) (x0 : Nat) (x1 : Int32) (x2 : Int32) : Option (Int32 × mMm) := gd ((S x0).1 = 6) (ob (f_X5_isWalker S M x0 x1) fun v3 => (if v3 = 0 then some ((-1 : Int32), M) else ob (f_X5_isWalker S M x0 x2) fun v6 => (if v6 = 0 then some ((-1 : Int32), M) else ob (f_X5_take S M x0) fun M10 => nm ((0 : Int32)) fun v11 => (fb_X5_meets_24 S FU M10 x0 x1 x2 v11))))
theorem w_X5_meets {x0 : Nat} {x1 : Int32} {x2 : Int32} {r : Int32} {M' : mMm} (hF : f_X5_meets S M x0 x1 x2 = some (r, M')) : mCt l D n0 P yX5_meets cX5_meets 4 (some .int) 3 70 0 0 [.ref x0, .int x1, .int x2] S M n (some (.int r)) S M' n := by
  refine m_ofW (by decide) (Nat.le_of_ble_eq_true rfl) (fun p e s m below meth c X hnm hp ls hl => ?_)
  have hx := X.1.1
  have hb := X.1.2.1
  have hown := X.1.2.2.2.1
  have hts := X.1.2.2.2.2
  have hl : lv_has ls 4 [(0, .ref x0), (1, .int x1), (2, .int x2)] := hl
  unfold f_X5_meets at hF
  refine lv_aload_n hx hb dX5_meets_0 rfl (lv_at hl 0 rfl) ?_
  refine lv_iload_n hx hb dX5_meets_1 rfl (lv_at hl 1 rfl) ?_
  obtain ⟨g1, hF⟩ := gd_s hF
  obtain ⟨v3, e2, hF⟩ := ob_s hF
  refine m_callV (As := [.int x1]) (rest := []) X hp (w_X5_isWalker e2) q1847 q1849 qs111 q144 q1850 1 rfl ds_X5_isWalker ⟨Nat.le_of_ble_eq_true rfl, Nat.le_of_ble_eq_true rfl⟩ 6 (T := TX5) (N := 40) rfl (by decide) g1 hl.1 rfl (Nat.le_of_ble_eq_true rfl) dX5_meets_2 ⟨Nat.le_refl 0, Nat.le_refl 0⟩ (fun H locs hp => ?_)
  refine lv_if_eq (tgt := 16) hx hb dX5_meets_5 (by decide) (fun c4 => ?_) (fun c4 => ?_)
  · have hF := if_p c4 hF
    refine lv_iconst (v := -1) hx hb dX5_meets_16 (by decide) ?_
    cases hF
    exact m_iret X hp dX5_meets_17
  · have hF := if_n c4 hF
    refine lv_aload_n hx hb dX5_meets_8 rfl (lv_at hl 0 rfl) ?_
    refine lv_iload_n hx hb dX5_meets_9 rfl (lv_at hl 2 rfl) ?_
    obtain ⟨v6, e5, hF⟩ := ob_s hF
    refine m_callV (As := [.int x2]) (rest := []) X hp (w_X5_isWalker e5) q1847 q1849 qs111 q144 q1850 1 rfl ds_X5_isWalker ⟨Nat.le_of_ble_eq_true rfl, Nat.le_of_ble_eq_true rfl⟩ 6 (T := TX5) (N := 40) rfl (by decide) g1 hl.1 rfl (Nat.le_of_ble_eq_true rfl) dX5_meets_10 ⟨Nat.le_refl 0, Nat.le_refl 0⟩ (fun H locs hp => ?_)
    refine lv_if_ne (tgt := 18) hx hb dX5_meets_13 (by decide) (fun c7 => ?_) (fun c7 => ?_)
    · have hF := if_n c7 hF
      refine lv_aload_n hx hb dX5_meets_18 rfl (lv_at hl 0 rfl) ?_
      obtain ⟨M10, e8, hF⟩ := ob_s hF
      refine m_callV (As := []) (rest := []) X hp (w_X5_take e8) q1871 q1873 qs112 q144 q1874 0 rfl ds_X5_take ⟨Nat.le_of_ble_eq_true rfl, Nat.le_of_ble_eq_true rfl⟩ 6 (T := TX5) (N := 40) rfl (by decide) g1 hl.1 rfl (Nat.le_of_ble_eq_true rfl) dX5_meets_19 ⟨Nat.le_refl 0, Nat.le_refl 0⟩ (fun H locs hp => ?_)
      refine lv_iconst (v := 0) hx hb dX5_meets_22 (by decide) ?_
      refine lv_topi (fun v11 ev12 => ?_)
      have hF := nm_s hF ev12
      refine lv_istore_n (lv' := [(3, .int v11), (0, .ref x0), (1, .int x1), (2, .int x2)]) hx hb dX5_meets_23 rfl hl (by decide) rfl (fun ls hl => ?_)
      exact b_X5_meets_24 X _ _ _ _ _ _ _ _ _ hp (lv_sub hl [1, 2, 3, 0] rfl) hF
    · have hF := if_p c7 hF
      refine lv_iconst (v := -1) hx hb dX5_meets_16 (by decide) ?_
      cases hF
      exact m_iret X hp dX5_meets_17
end
section
variable {l : Launch} {D : va_G} {n0 : Nat} {P : mP} {S : mSh} {M : mMm} {n : Nat} {p : Program} {e : Env} {s : State} {m : MethodId} {args : Array Value} {below : List Frame} {meth : Method} {c : Code}
abbrev Rm_X5_minutes : Room := { frames := 8, cells := 0, slots := 0, locals := 182 }
def fb_X5_minutes_71 (S : mSh) : Nat → mMm → Nat → Int32 → Int32 → Int32 → Option (Int32 × mMm)
  | 0, _, _, _, _, _ => none
  | t + 1, M, x0, x1, x2, x3 => (if x1 ≤ x3 then gd ((S x0).1 = 6) (ob (f_X5_sumOf S M x0 (9 : Int32)) fun v31 => some ((v31 - x2), M)) else gd ((S x0).1 = 6) (ob (f_X5_begins S M x0) fun M35 => ob (f_X5_goesMinute S M35 x0) fun M38 => ob (f_X5_ends S M38 x0) fun M41 => nm (x3 + (1 : Int32)) fun v42 => (fb_X5_minutes_71 S t M41 x0 x1 x2 v42)))
theorem b_X5_minutes_71 {r : Int32} {M' : mMm} (X : mCx D n0 P p m c cX5_minutes 4 s args yX5_minutes.cls meth (some .int)) : ∀ t : Nat, ∀ (M : mMm) (x0 : Nat) (x1 : Int32) (x2 : Int32) (x3 : Int32) (H : Heap) (locs : List Loc) (ls : Array Slot), mHp D n0 S M n s H locs → lv_has ls 4 [(0, .ref x0), (1, .int x1), (2, .int x2), (3, .int x3)] → fb_X5_minutes_71 S t M x0 x1 x2 x3 = some (r, M') → W p l e Rm_X5_minutes s m args below meth c H locs 0 0 (MQ below (mQ D n0 (some (.int r)) S M' n) args s 0 0 (mA n0)) (F0 m 71 ls []) := by
  have hx := X.1.1
  have hb := X.1.2.1
  have hown := X.1.2.2.2.1
  have hts := X.1.2.2.2.2
  intro t
  induction t with
  | zero =>
    intro M x0 x1 x2 x3 H locs ls hp hl hF
    have hF : none = some (r, M') := hF
    cases hF
  | succ t ih =>
    intro M x0 x1 x2 x3 H locs ls hp hl hF
    rw [fb_X5_minutes_71] at hF
    refine lv_iload_n hx hb dX5_minutes_71 rfl (lv_at hl 3 rfl) ?_
    refine lv_iload_n hx hb dX5_minutes_72 rfl (lv_at hl 1 rfl) ?_
    refine lv_icmp_ge (tgt := 94) hx hb dX5_minutes_73 (by decide) (fun c28 => ?_) (fun c28 => ?_)
    · have hF := if_p c28 hF
      refine lv_aload_n hx hb dX5_minutes_94 rfl (lv_at hl 0 rfl) ?_
      refine lv_bipush (v := 9) hx hb dX5_minutes_95 (by decide) ?_
      obtain ⟨g29, hF⟩ := gd_s hF
      obtain ⟨v31, e30, hF⟩ := ob_s hF
      refine m_callV (As := [.int (9 : Int32)]) (rest := []) X hp (w_X5_sumOf e30) q1831 q1833 qs110 q144 q1834 1 rfl ds_X5_sumOf ⟨Nat.le_of_ble_eq_true rfl, Nat.le_of_ble_eq_true rfl⟩ 6 (T := TX5) (N := 40) rfl (by decide) g29 hl.1 rfl (Nat.le_of_ble_eq_true rfl) dX5_minutes_97 ⟨Nat.le_refl 0, Nat.le_refl 0⟩ (fun H locs hp => ?_)
      refine lv_iload_n hx hb dX5_minutes_100 rfl (lv_at hl 2 rfl) ?_
      refine lv_isub hx hb dX5_minutes_101 ?_
      cases hF
      exact m_iret X hp dX5_minutes_102
    · have hF := if_n c28 hF
      refine lv_aload_n hx hb dX5_minutes_76 rfl (lv_at hl 0 rfl) ?_
      obtain ⟨g32, hF⟩ := gd_s hF
      obtain ⟨M35, e33, hF⟩ := ob_s hF
      refine m_callV (As := []) (rest := []) X hp (w_X5_begins e33) q1719 q1721 qs87 q144 q1722 0 rfl ds_X5_begins ⟨Nat.le_of_ble_eq_true rfl, Nat.le_of_ble_eq_true rfl⟩ 6 (T := TX5) (N := 40) rfl (by decide) g32 hl.1 rfl (Nat.le_of_ble_eq_true rfl) dX5_minutes_77 ⟨Nat.le_refl 0, Nat.le_refl 0⟩ (fun H locs hp => ?_)
      refine lv_aload_n hx hb dX5_minutes_80 rfl (lv_at hl 0 rfl) ?_
      obtain ⟨M38, e36, hF⟩ := ob_s hF
      refine m_callV (As := []) (rest := []) X hp (w_X5_goesMinute e36) q1723 q1725 qs88 q144 q1726 0 rfl ds_X5_goesMinute ⟨Nat.le_of_ble_eq_true rfl, Nat.le_of_ble_eq_true rfl⟩ 6 (T := TX5) (N := 40) rfl (by decide) g32 hl.1 rfl (Nat.le_of_ble_eq_true rfl) dX5_minutes_81 ⟨Nat.le_refl 0, Nat.le_refl 0⟩ (fun H locs hp => ?_)
      refine lv_aload_n hx hb dX5_minutes_84 rfl (lv_at hl 0 rfl) ?_
      obtain ⟨M41, e39, hF⟩ := ob_s hF
      refine m_callV (As := []) (rest := []) X hp (w_X5_ends e39) q1823 q1825 qs108 q144 q1826 0 rfl ds_X5_ends ⟨Nat.le_of_ble_eq_true rfl, Nat.le_of_ble_eq_true rfl⟩ 6 (T := TX5) (N := 40) rfl (by decide) g32 hl.1 rfl (Nat.le_of_ble_eq_true rfl) dX5_minutes_85 ⟨Nat.le_refl 0, Nat.le_refl 0⟩ (fun H locs hp => ?_)
      obtain ⟨v42, ev43⟩ : ∃ y : Int32, y = x3 + (1 : Int32) := ⟨_, rfl⟩
      have hF := nm_s hF ev43
      refine lv_iinc (v := v42) (lv' := [(3, .int v42), (0, .ref x0), (1, .int x1), (2, .int x2)]) hx hb dX5_minutes_88 hl (k := 3) rfl (by rw [ev43]; rfl) (by decide) rfl (fun ls hl => ?_)
      refine lv_goto (tgt := 71) hx hb dX5_minutes_91 (by decide) ?_
      exact ih _ _ _ _ _ _ _ _ hp (lv_sub hl [1, 2, 3, 0] rfl) hF
def fb_X5_minutes_32 (S : mSh) : Nat → mMm → Nat → Int32 → Int32 → Int32 → Option (Int32 × mMm)
  | 0, _, _, _, _, _ => none
  | t + 1, M, x0, x1, x2, x3 => ob (rR S M x0 6 0) fun v13 => ob (aI S M v13 100 (940 : Int32)) fun v15 => (if v15 ≤ x3 then nm ((0 : Int32)) fun v18 => (fb_X5_minutes_71 S FU M x0 x1 x2 v18) else ob (rR S M x0 6 0) fun v20 => ob (aI S M v20 100 (((144 : Int32) + ((12 : Int32) * x3)) + (9 : Int32))) fun v22 => nm ((x2 + v22)) fun v24 => nm (x3 + (1 : Int32)) fun v26 => (fb_X5_minutes_32 S t M x0 x1 v24 v26))
theorem b_X5_minutes_32 {r : Int32} {M' : mMm} (X : mCx D n0 P p m c cX5_minutes 4 s args yX5_minutes.cls meth (some .int)) : ∀ t : Nat, ∀ (M : mMm) (x0 : Nat) (x1 : Int32) (x2 : Int32) (x3 : Int32) (H : Heap) (locs : List Loc) (ls : Array Slot), mHp D n0 S M n s H locs → lv_has ls 4 [(0, .ref x0), (1, .int x1), (2, .int x2), (3, .int x3)] → fb_X5_minutes_32 S t M x0 x1 x2 x3 = some (r, M') → W p l e Rm_X5_minutes s m args below meth c H locs 0 0 (MQ below (mQ D n0 (some (.int r)) S M' n) args s 0 0 (mA n0)) (F0 m 32 ls []) := by
  have hx := X.1.1
  have hb := X.1.2.1
  have hown := X.1.2.2.2.1
  have hts := X.1.2.2.2.2
  intro t
  induction t with
  | zero =>
    intro M x0 x1 x2 x3 H locs ls hp hl hF
    have hF : none = some (r, M') := hF
    cases hF
  | succ t ih =>
    intro M x0 x1 x2 x3 H locs ls hp hl hF
    rw [fb_X5_minutes_32] at hF
    refine lv_iload_n hx hb dX5_minutes_32 rfl (lv_at hl 3 rfl) ?_
    refine lv_aload_n hx hb dX5_minutes_33 rfl (lv_at hl 0 rfl) ?_
    obtain ⟨v13, e14, hF⟩ := ob_s hF
    refine m_getR X hp e14 kX5 (Nat.le_of_ble_eq_true rfl) q1459 dX5_minutes_34 ?_
    refine lv_sipush (v := 940) hx hb dX5_minutes_37 (by decide) ?_
    obtain ⟨v15, e16, hF⟩ := ob_s hF
    refine m_iaI X hp e16 dX5_minutes_40 ?_
    refine lv_icmp_ge (tgt := 69) hx hb dX5_minutes_41 (by decide) (fun c17 => ?_) (fun c17 => ?_)
    · have hF := if_p c17 hF
      refine lv_iconst (v := 0) hx hb dX5_minutes_69 (by decide) ?_
      refine lv_topi (fun v18 ev19 => ?_)
      have hF := nm_s hF ev19
      refine lv_istore_n (lv' := [(3, .int v18), (0, .ref x0), (1, .int x1), (2, .int x2)]) hx hb dX5_minutes_70 rfl hl (by decide) rfl (fun ls hl => ?_)
      exact b_X5_minutes_71 X _ _ _ _ _ _ _ _ _ hp (lv_sub hl [1, 2, 3, 0] rfl) hF
    · have hF := if_n c17 hF
      refine lv_iload_n hx hb dX5_minutes_44 rfl (lv_at hl 2 rfl) ?_
      refine lv_aload_n hx hb dX5_minutes_45 rfl (lv_at hl 0 rfl) ?_
      obtain ⟨v20, e21, hF⟩ := ob_s hF
      refine m_getR X hp e21 kX5 (Nat.le_of_ble_eq_true rfl) q1459 dX5_minutes_46 ?_
      refine lv_sipush (v := 144) hx hb dX5_minutes_49 (by decide) ?_
      refine lv_bipush (v := 12) hx hb dX5_minutes_52 (by decide) ?_
      refine lv_iload_n hx hb dX5_minutes_54 rfl (lv_at hl 3 rfl) ?_
      refine lv_imul hx hb dX5_minutes_55 ?_
      refine lv_iadd hx hb dX5_minutes_56 ?_
      refine lv_bipush (v := 9) hx hb dX5_minutes_57 (by decide) ?_
      refine lv_iadd hx hb dX5_minutes_59 ?_
      obtain ⟨v22, e23, hF⟩ := ob_s hF
      refine m_iaI X hp e23 dX5_minutes_60 ?_
      refine lv_iadd hx hb dX5_minutes_61 ?_
      refine lv_topi (fun v24 ev25 => ?_)
      have hF := nm_s hF ev25
      refine lv_istore_n (lv' := [(2, .int v24), (0, .ref x0), (1, .int x1), (3, .int x3)]) hx hb dX5_minutes_62 rfl hl (by decide) rfl (fun ls hl => ?_)
      obtain ⟨v26, ev27⟩ : ∃ y : Int32, y = x3 + (1 : Int32) := ⟨_, rfl⟩
      have hF := nm_s hF ev27
      refine lv_iinc (v := v26) (lv' := [(3, .int v26), (2, .int v24), (0, .ref x0), (1, .int x1)]) hx hb dX5_minutes_63 hl (k := 3) rfl (by rw [ev27]; rfl) (by decide) rfl (fun ls hl => ?_)
      refine lv_goto (tgt := 32) hx hb dX5_minutes_66 (by decide) ?_
      exact ih _ _ _ _ _ _ _ _ hp (lv_sub hl [2, 3, 1, 0] rfl) hF
def f_X5_minutes (S : mSh) (M : mMm) (x0 : Nat) (x1 : Int32) : Option (Int32 × mMm) := ob (f_X5_within x1 (1 : Int32) (60 : Int32)) fun v2 => (if v2 = 0 then some ((-1 : Int32), M) else ob (rR S M x0 6 0) fun v4 => ob (aI S M v4 100 (936 : Int32)) fun v6 => (if (v6 + x1) ≤ (9999 : Int32) then nm ((0 : Int32)) fun v9 => nm ((0 : Int32)) fun v11 => (fb_X5_minutes_32 S FU M x0 x1 v9 v11) else some ((-1 : Int32), M)))
theorem w_X5_minutes {x0 : Nat} {x1 : Int32} {r : Int32} {M' : mMm} (hF : f_X5_minutes S M x0 x1 = some (r, M')) : mCt l D n0 P yX5_minutes cX5_minutes 4 (some .int) 8 182 0 0 [.ref x0, .int x1] S M n (some (.int r)) S M' n := by
  refine m_ofW (by decide) (Nat.le_of_ble_eq_true rfl) (fun p e s m below meth c X hnm hp ls hl => ?_)
  have hx := X.1.1
  have hb := X.1.2.1
  have hown := X.1.2.2.2.1
  have hts := X.1.2.2.2.2
  have hl : lv_has ls 4 [(0, .ref x0), (1, .int x1)] := hl
  unfold f_X5_minutes at hF
  refine lv_iload_n hx hb dX5_minutes_0 rfl (lv_at hl 1 rfl) ?_
  refine lv_iconst (v := 1) hx hb dX5_minutes_1 (by decide) ?_
  refine lv_bipush (v := 60) hx hb dX5_minutes_2 (by decide) ?_
  obtain ⟨v2, e1, hF⟩ := ob_s hF
  refine m_callS (As := [.int x1, .int (1 : Int32), .int (60 : Int32)]) (rest := []) X hp (w_X5_within e1) q1588 q1589 q144 q1590 3 rfl ds_X5_within ⟨Nat.le_of_ble_eq_true rfl, Nat.le_of_ble_eq_true rfl⟩ hl.1 rfl (Nat.le_of_ble_eq_true rfl) dX5_minutes_4 ⟨Nat.le_refl 0, Nat.le_refl 0⟩ (fun H locs hp => ?_)
  refine lv_if_eq (tgt := 26) hx hb dX5_minutes_7 (by decide) (fun c3 => ?_) (fun c3 => ?_)
  · have hF := if_p c3 hF
    refine lv_iconst (v := -1) hx hb dX5_minutes_26 (by decide) ?_
    cases hF
    exact m_iret X hp dX5_minutes_27
  · have hF := if_n c3 hF
    refine lv_aload_n hx hb dX5_minutes_10 rfl (lv_at hl 0 rfl) ?_
    obtain ⟨v4, e5, hF⟩ := ob_s hF
    refine m_getR X hp e5 kX5 (Nat.le_of_ble_eq_true rfl) q1459 dX5_minutes_11 ?_
    refine lv_sipush (v := 936) hx hb dX5_minutes_14 (by decide) ?_
    obtain ⟨v6, e7, hF⟩ := ob_s hF
    refine m_iaI X hp e7 dX5_minutes_17 ?_
    refine lv_iload_n hx hb dX5_minutes_18 rfl (lv_at hl 1 rfl) ?_
    refine lv_iadd hx hb dX5_minutes_19 ?_
    refine lv_sipush (v := 9999) hx hb dX5_minutes_20 (by decide) ?_
    refine lv_icmp_le (tgt := 28) hx hb dX5_minutes_23 (by decide) (fun c8 => ?_) (fun c8 => ?_)
    · have hF := if_p c8 hF
      refine lv_iconst (v := 0) hx hb dX5_minutes_28 (by decide) ?_
      refine lv_topi (fun v9 ev10 => ?_)
      have hF := nm_s hF ev10
      refine lv_istore_n (lv' := [(2, .int v9), (0, .ref x0), (1, .int x1)]) hx hb dX5_minutes_29 rfl hl (by decide) rfl (fun ls hl => ?_)
      refine lv_iconst (v := 0) hx hb dX5_minutes_30 (by decide) ?_
      refine lv_topi (fun v11 ev12 => ?_)
      have hF := nm_s hF ev12
      refine lv_istore_n (lv' := [(3, .int v11), (2, .int v9), (0, .ref x0), (1, .int x1)]) hx hb dX5_minutes_31 rfl hl (by decide) rfl (fun ls hl => ?_)
      exact b_X5_minutes_32 X _ _ _ _ _ _ _ _ _ hp (lv_sub hl [2, 3, 1, 0] rfl) hF
    · have hF := if_n c8 hF
      refine lv_iconst (v := -1) hx hb dX5_minutes_26 (by decide) ?_
      cases hF
      exact m_iret X hp dX5_minutes_27
end
section
variable {l : Launch} {D : va_G} {n0 : Nat} {P : mP} {S : mSh} {M : mMm} {n : Nat} {p : Program} {e : Env} {s : State} {m : MethodId} {args : Array Value} {below : List Frame} {meth : Method} {c : Code}
abbrev Rm_X5_move : Room := { frames := 1, cells := 0, slots := 0, locals := 22 }
def fb_X5_move_80 (S : mSh) (M : mMm) (x0 : Nat) (y0 : Int32) (y1 : Int32) (y2 : Int32) (y3 : Nat) : Option (Int32 × mMm) := ob (wA S M y3 100 y2 (.int (y1 + y0))) fun M27 => ob (rR S M27 x0 6 0) fun v29 => ob (aI S M27 v29 100 (2383 : Int32)) fun v31 => some (v31, M27)
theorem b_X5_move_80 {r : Int32} {M' : mMm} (X : mCx D n0 P p m c cX5_move 2 s args yX5_move.cls meth (some .int)) : ∀ (M : mMm) (x0 : Nat) (y0 : Int32) (y1 : Int32) (y2 : Int32) (y3 : Nat) (H : Heap) (locs : List Loc) (ls : Array Slot), mHp D n0 S M n s H locs → lv_has ls 2 [(0, .ref x0)] → fb_X5_move_80 S M x0 y0 y1 y2 y3 = some (r, M') → W p l e Rm_X5_move s m args below meth c H locs 0 0 (MQ below (mQ D n0 (some (.int r)) S M' n) args s 0 0 (mA n0)) (F0 m 80 ls [.int y0, .int y1, .int y2, .ref y3]) := by
  have hx := X.1.1
  have hb := X.1.2.1
  have hown := X.1.2.2.2.1
  have hts := X.1.2.2.2.2
  intro M x0 y0 y1 y2 y3 H locs ls hp hl hF
  unfold fb_X5_move_80 at hF
  refine lv_iadd hx hb dX5_move_80 ?_
  obtain ⟨M27, e28, hF⟩ := ob_s hF
  refine m_iaW X hp e28 dX5_move_81 (fun H locs hp => ?_)
  refine lv_aload_n hx hb dX5_move_82 rfl (lv_at hl 0 rfl) ?_
  obtain ⟨v29, e30, hF⟩ := ob_s hF
  refine m_getR X hp e30 kX5 (Nat.le_of_ble_eq_true rfl) q1459 dX5_move_83 ?_
  refine lv_sipush (v := 2383) hx hb dX5_move_86 (by decide) ?_
  obtain ⟨v31, e32, hF⟩ := ob_s hF
  refine m_iaI X hp e32 dX5_move_89 ?_
  cases hF
  exact m_iret X hp dX5_move_90
def fb_X5_move_61 (S : mSh) (M : mMm) (x0 : Nat) (x1 : Int32) : Option (Int32 × mMm) := ob (rR S M x0 6 0) fun v22 => ob (aI S M v22 100 (2383 : Int32)) fun v24 => (if x1 = (-1 : Int32) then (fb_X5_move_80 S M x0 (0 : Int32) v24 (2383 : Int32) v22) else (fb_X5_move_80 S M x0 (1 : Int32) v24 (2383 : Int32) v22))
theorem b_X5_move_61 {r : Int32} {M' : mMm} (X : mCx D n0 P p m c cX5_move 2 s args yX5_move.cls meth (some .int)) : ∀ (M : mMm) (x0 : Nat) (x1 : Int32) (H : Heap) (locs : List Loc) (ls : Array Slot), mHp D n0 S M n s H locs → lv_has ls 2 [(0, .ref x0), (1, .int x1)] → fb_X5_move_61 S M x0 x1 = some (r, M') → W p l e Rm_X5_move s m args below meth c H locs 0 0 (MQ below (mQ D n0 (some (.int r)) S M' n) args s 0 0 (mA n0)) (F0 m 61 ls []) := by
  have hx := X.1.1
  have hb := X.1.2.1
  have hown := X.1.2.2.2.1
  have hts := X.1.2.2.2.2
  intro M x0 x1 H locs ls hp hl hF
  unfold fb_X5_move_61 at hF
  refine lv_aload_n hx hb dX5_move_61 rfl (lv_at hl 0 rfl) ?_
  obtain ⟨v22, e23, hF⟩ := ob_s hF
  refine m_getR X hp e23 kX5 (Nat.le_of_ble_eq_true rfl) q1459 dX5_move_62 ?_
  refine lv_sipush (v := 2383) hx hb dX5_move_65 (by decide) ?_
  refine lv_dup2_11 hx hb dX5_move_68 rfl rfl ?_
  obtain ⟨v24, e25, hF⟩ := ob_s hF
  refine m_iaI X hp e25 dX5_move_69 ?_
  refine lv_iload_n hx hb dX5_move_70 rfl (lv_at hl 1 rfl) ?_
  refine lv_iconst (v := -1) hx hb dX5_move_71 (by decide) ?_
  refine lv_icmp_ne (tgt := 79) hx hb dX5_move_72 (by decide) (fun c26 => ?_) (fun c26 => ?_)
  · have hF := if_n c26 hF
    refine lv_iconst (v := 1) hx hb dX5_move_79 (by decide) ?_
    exact b_X5_move_80 X _ _ _ _ _ _ _ _ _ hp (lv_sub hl [0] rfl) hF
  · have hF := if_p c26 hF
    refine lv_iconst (v := 0) hx hb dX5_move_75 (by decide) ?_
    refine lv_goto (tgt := 80) hx hb dX5_move_76 (by decide) ?_
    exact b_X5_move_80 X _ _ _ _ _ _ _ _ _ hp (lv_sub hl [0] rfl) hF
def f_X5_move (S : mSh) (M : mMm) (x0 : Nat) (x1 : Int32) : Option (Int32 × mMm) := ob (f_X5_within x1 (-1 : Int32) (2 : Int32)) fun v2 => (if v2 = 0 then some ((-1 : Int32), M) else (if x1 = (-1 : Int32) then ob (rR S M x0 6 0) fun v18 => ob (wA S M v18 100 (2383 : Int32) (.int (0 : Int32))) fun M20 => (fb_X5_move_61 S M20 x0 x1) else ob (rR S M x0 6 0) fun v5 => ob (aI S M v5 100 (2383 : Int32)) fun v7 => (if v7 = (24 : Int32) then some ((-1 : Int32), M) else ob (rR S M x0 6 0) fun v10 => ob (rR S M x0 6 0) fun v12 => ob (aI S M v12 100 (2383 : Int32)) fun v14 => ob (wA S M v10 100 ((2384 : Int32) + v14) (.int x1)) fun M16 => (fb_X5_move_61 S M16 x0 x1))))
theorem w_X5_move {x0 : Nat} {x1 : Int32} {r : Int32} {M' : mMm} (hF : f_X5_move S M x0 x1 = some (r, M')) : mCt l D n0 P yX5_move cX5_move 2 (some .int) 1 22 0 0 [.ref x0, .int x1] S M n (some (.int r)) S M' n := by
  refine m_ofW (by decide) (Nat.le_of_ble_eq_true rfl) (fun p e s m below meth c X hnm hp ls hl => ?_)
  have hx := X.1.1
  have hb := X.1.2.1
  have hown := X.1.2.2.2.1
  have hts := X.1.2.2.2.2
  have hl : lv_has ls 2 [(0, .ref x0), (1, .int x1)] := hl
  unfold f_X5_move at hF
  refine lv_iload_n hx hb dX5_move_0 rfl (lv_at hl 1 rfl) ?_
  refine lv_iconst (v := -1) hx hb dX5_move_1 (by decide) ?_
  refine lv_iconst (v := 2) hx hb dX5_move_2 (by decide) ?_
  obtain ⟨v2, e1, hF⟩ := ob_s hF
  refine m_callS (As := [.int x1, .int (-1 : Int32), .int (2 : Int32)]) (rest := []) X hp (w_X5_within e1) q1588 q1589 q144 q1590 3 rfl ds_X5_within ⟨Nat.le_of_ble_eq_true rfl, Nat.le_of_ble_eq_true rfl⟩ hl.1 rfl (Nat.le_of_ble_eq_true rfl) dX5_move_3 ⟨Nat.le_refl 0, Nat.le_refl 0⟩ (fun H locs hp => ?_)
  refine lv_if_ne (tgt := 11) hx hb dX5_move_6 (by decide) (fun c3 => ?_) (fun c3 => ?_)
  · have hF := if_n c3 hF
    refine lv_iload_n hx hb dX5_move_11 rfl (lv_at hl 1 rfl) ?_
    refine lv_iconst (v := -1) hx hb dX5_move_12 (by decide) ?_
    refine lv_icmp_ne (tgt := 28) hx hb dX5_move_13 (by decide) (fun c4 => ?_) (fun c4 => ?_)
    · have hF := if_n c4 hF
      refine lv_aload_n hx hb dX5_move_28 rfl (lv_at hl 0 rfl) ?_
      obtain ⟨v5, e6, hF⟩ := ob_s hF
      refine m_getR X hp e6 kX5 (Nat.le_of_ble_eq_true rfl) q1459 dX5_move_29 ?_
      refine lv_sipush (v := 2383) hx hb dX5_move_32 (by decide) ?_
      obtain ⟨v7, e8, hF⟩ := ob_s hF
      refine m_iaI X hp e8 dX5_move_35 ?_
      refine lv_bipush (v := 24) hx hb dX5_move_36 (by decide) ?_
      refine lv_icmp_ne (tgt := 43) hx hb dX5_move_38 (by decide) (fun c9 => ?_) (fun c9 => ?_)
      · have hF := if_n c9 hF
        refine lv_aload_n hx hb dX5_move_43 rfl (lv_at hl 0 rfl) ?_
        obtain ⟨v10, e11, hF⟩ := ob_s hF
        refine m_getR X hp e11 kX5 (Nat.le_of_ble_eq_true rfl) q1459 dX5_move_44 ?_
        refine lv_sipush (v := 2384) hx hb dX5_move_47 (by decide) ?_
        refine lv_aload_n hx hb dX5_move_50 rfl (lv_at hl 0 rfl) ?_
        obtain ⟨v12, e13, hF⟩ := ob_s hF
        refine m_getR X hp e13 kX5 (Nat.le_of_ble_eq_true rfl) q1459 dX5_move_51 ?_
        refine lv_sipush (v := 2383) hx hb dX5_move_54 (by decide) ?_
        obtain ⟨v14, e15, hF⟩ := ob_s hF
        refine m_iaI X hp e15 dX5_move_57 ?_
        refine lv_iadd hx hb dX5_move_58 ?_
        refine lv_iload_n hx hb dX5_move_59 rfl (lv_at hl 1 rfl) ?_
        obtain ⟨M16, e17, hF⟩ := ob_s hF
        refine m_iaW X hp e17 dX5_move_60 (fun H locs hp => ?_)
        exact b_X5_move_61 X _ _ _ _ _ _ hp (lv_sub hl [0, 1] rfl) hF
      · have hF := if_p c9 hF
        refine lv_iconst (v := -1) hx hb dX5_move_41 (by decide) ?_
        cases hF
        exact m_iret X hp dX5_move_42
    · have hF := if_p c4 hF
      refine lv_aload_n hx hb dX5_move_16 rfl (lv_at hl 0 rfl) ?_
      obtain ⟨v18, e19, hF⟩ := ob_s hF
      refine m_getR X hp e19 kX5 (Nat.le_of_ble_eq_true rfl) q1459 dX5_move_17 ?_
      refine lv_sipush (v := 2383) hx hb dX5_move_20 (by decide) ?_
      refine lv_iconst (v := 0) hx hb dX5_move_23 (by decide) ?_
      obtain ⟨M20, e21, hF⟩ := ob_s hF
      refine m_iaW X hp e21 dX5_move_24 (fun H locs hp => ?_)
      refine lv_goto (tgt := 61) hx hb dX5_move_25 (by decide) ?_
      exact b_X5_move_61 X _ _ _ _ _ _ hp (lv_sub hl [0, 1] rfl) hF
  · have hF := if_p c3 hF
    refine lv_iconst (v := -1) hx hb dX5_move_9 (by decide) ?_
    cases hF
    exact m_iret X hp dX5_move_10
end
section
variable {l : Launch} {D : va_G} {n0 : Nat} {P : mP} {S : mSh} {M : mMm} {n : Nat} {p : Program} {e : Env} {s : State} {m : MethodId} {args : Array Value} {below : List Frame} {meth : Method} {c : Code}
abbrev Rm_X5_number : Room := { frames := 1, cells := 0, slots := 0, locals := 22 }
def fb_X5_number_80 (S : mSh) (k25 : mMm → Nat → Int32 → Int32 → Int32 → Int32 → Int32 → Option (Int32 × mMm)) (M : mMm) (x0 : Nat) (x1 : Int32) (x2 : Int32) (x3 : Int32) (x5 : Int32) (y0 : Int32) : Option (Int32 × mMm) := nm (x5 + (1 : Int32)) fun v35 => ob (rI S M x0 6 9) fun v37 => ob (wF S M x0 6 9 (.int (v37 + (1 : Int32)))) fun M39 => (k25 M39 x0 x1 x2 x3 y0 v35)
theorem b_X5_number_80 {r : Int32} {M' : mMm} (X : mCx D n0 P p m c cX5_number 6 s args yX5_number.cls meth (some .int)) (k25 : mMm → Nat → Int32 → Int32 → Int32 → Int32 → Int32 → Option (Int32 × mMm)) (hk25 : ∀ (M : mMm) (x0 : Nat) (x1 : Int32) (x2 : Int32) (x3 : Int32) (x4 : Int32) (x5 : Int32) (H : Heap) (locs : List Loc) (ls : Array Slot), mHp D n0 S M n s H locs → lv_has ls 6 [(0, .ref x0), (1, .int x1), (2, .int x2), (3, .int x3), (4, .int x4), (5, .int x5)] → k25 M x0 x1 x2 x3 x4 x5 = some (r, M') → W p l e Rm_X5_number s m args below meth c H locs 0 0 (MQ below (mQ D n0 (some (.int r)) S M' n) args s 0 0 (mA n0)) (F0 m 25 ls [])) : ∀ (M : mMm) (x0 : Nat) (x1 : Int32) (x2 : Int32) (x3 : Int32) (x5 : Int32) (y0 : Int32) (H : Heap) (locs : List Loc) (ls : Array Slot), mHp D n0 S M n s H locs → lv_has ls 6 [(0, .ref x0), (1, .int x1), (2, .int x2), (3, .int x3), (5, .int x5)] → fb_X5_number_80 S k25 M x0 x1 x2 x3 x5 y0 = some (r, M') → W p l e Rm_X5_number s m args below meth c H locs 0 0 (MQ below (mQ D n0 (some (.int r)) S M' n) args s 0 0 (mA n0)) (F0 m 80 ls [.int y0]) := by
  have hx := X.1.1
  have hb := X.1.2.1
  have hown := X.1.2.2.2.1
  have hts := X.1.2.2.2.2
  intro M x0 x1 x2 x3 x5 y0 H locs ls hp hl hF
  unfold fb_X5_number_80 at hF
  refine lv_istore (lv' := [(4, .int y0), (0, .ref x0), (1, .int x1), (2, .int x2), (3, .int x3), (5, .int x5)]) hx hb dX5_number_80 hl (by decide) rfl (fun ls hl => ?_)
  obtain ⟨v35, ev36⟩ : ∃ y : Int32, y = x5 + (1 : Int32) := ⟨_, rfl⟩
  have hF := nm_s hF ev36
  refine lv_iinc (v := v35) (lv' := [(5, .int v35), (4, .int y0), (0, .ref x0), (1, .int x1), (2, .int x2), (3, .int x3)]) hx hb dX5_number_82 hl (k := 5) rfl (by rw [ev36]; rfl) (by decide) rfl (fun ls hl => ?_)
  refine lv_aload_n hx hb dX5_number_85 rfl (lv_at hl 2 rfl) ?_
  refine lv_dup hx hb dX5_number_86 rfl ?_
  obtain ⟨v37, e38, hF⟩ := ob_s hF
  refine m_getI X hp e38 kX5 (Nat.le_of_ble_eq_true rfl) q1468 dX5_number_87 ?_
  refine lv_iconst (v := 1) hx hb dX5_number_90 (by decide) ?_
  refine lv_iadd hx hb dX5_number_91 ?_
  obtain ⟨M39, e40, hF⟩ := ob_s hF
  refine m_putW X hp e40 kX5 (Nat.le_of_ble_eq_true rfl) q1468 rfl rfl rfl dX5_number_92 (fun H locs hp => ?_)
  refine lv_goto (tgt := 25) hx hb dX5_number_95 (by decide) ?_
  exact hk25 _ _ _ _ _ _ _ _ _ _ hp (lv_sub hl [2, 3, 4, 5, 1, 0] rfl) hF
def fb_X5_number_133 (S : mSh) (M : mMm) (x0 : Nat) (x4 : Int32) : Option (Int32 × mMm) := gd ((S x0).1 = 6) (ob (f_X5_fine S M x0) fun v57 => (if v57 = 0 then some ((0 : Int32), M) else some (x4, M)))
theorem b_X5_number_133 {r : Int32} {M' : mMm} (X : mCx D n0 P p m c cX5_number 6 s args yX5_number.cls meth (some .int)) : ∀ (M : mMm) (x0 : Nat) (x4 : Int32) (H : Heap) (locs : List Loc) (ls : Array Slot), mHp D n0 S M n s H locs → lv_has ls 6 [(0, .ref x0), (4, .int x4)] → fb_X5_number_133 S M x0 x4 = some (r, M') → W p l e Rm_X5_number s m args below meth c H locs 0 0 (MQ below (mQ D n0 (some (.int r)) S M' n) args s 0 0 (mA n0)) (F0 m 133 ls []) := by
  have hx := X.1.1
  have hb := X.1.2.1
  have hown := X.1.2.2.2.1
  have hts := X.1.2.2.2.2
  intro M x0 x4 H locs ls hp hl hF
  unfold fb_X5_number_133 at hF
  refine lv_aload_n hx hb dX5_number_133 rfl (lv_at hl 0 rfl) ?_
  obtain ⟨g55, hF⟩ := gd_s hF
  obtain ⟨v57, e56, hF⟩ := ob_s hF
  refine m_callV (As := []) (rest := []) X hp (w_X5_fine e56) q1598 q1600 qs64 q144 q1601 0 rfl ds_X5_fine ⟨Nat.le_of_ble_eq_true rfl, Nat.le_of_ble_eq_true rfl⟩ 6 (T := TX5) (N := 40) rfl (by decide) g55 hl.1 rfl (Nat.le_of_ble_eq_true rfl) dX5_number_134 ⟨Nat.le_refl 0, Nat.le_refl 0⟩ (fun H locs hp => ?_)
  refine lv_if_eq (tgt := 145) hx hb dX5_number_137 (by decide) (fun c58 => ?_) (fun c58 => ?_)
  · have hF := if_p c58 hF
    refine lv_iconst (v := 0) hx hb dX5_number_145 (by decide) ?_
    cases hF
    exact m_iret X hp dX5_number_146
  · have hF := if_n c58 hF
    refine lv_iload hx hb dX5_number_140 (lv_at hl 1 rfl) ?_
    refine lv_goto (tgt := 146) hx hb dX5_number_142 (by decide) ?_
    cases hF
    exact m_iret X hp dX5_number_146
def fb_X5_number_98 (S : mSh) (M : mMm) (x0 : Nat) (x1 : Int32) (x2 : Int32) (x3 : Int32) (x4 : Int32) (x5 : Int32) : Option (Int32 × mMm) := ob (f_X5_within x5 (1 : Int32) (4 : Int32)) fun v42 => (if v42 = 0 then gd ((S x0).1 = 6) (ob (f_X5_wrong S M x0 (1 : Int32) x3) fun M54 => (fb_X5_number_133 S M54 x0 x4)) else ob (f_X5_within x4 x1 x2) fun v45 => (if v45 = 0 then gd ((S x0).1 = 6) (ob (f_X5_wrong S M x0 (2 : Int32) x3) fun M50 => (fb_X5_number_133 S M50 x0 x4)) else (fb_X5_number_133 S M x0 x4)))
theorem b_X5_number_98 {r : Int32} {M' : mMm} (X : mCx D n0 P p m c cX5_number 6 s args yX5_number.cls meth (some .int)) : ∀ (M : mMm) (x0 : Nat) (x1 : Int32) (x2 : Int32) (x3 : Int32) (x4 : Int32) (x5 : Int32) (H : Heap) (locs : List Loc) (ls : Array Slot), mHp D n0 S M n s H locs → lv_has ls 6 [(0, .ref x0), (1, .int x1), (2, .int x2), (3, .int x3), (4, .int x4), (5, .int x5)] → fb_X5_number_98 S M x0 x1 x2 x3 x4 x5 = some (r, M') → W p l e Rm_X5_number s m args below meth c H locs 0 0 (MQ below (mQ D n0 (some (.int r)) S M' n) args s 0 0 (mA n0)) (F0 m 98 ls []) := by
  have hx := X.1.1
  have hb := X.1.2.1
  have hown := X.1.2.2.2.1
  have hts := X.1.2.2.2.2
  intro M x0 x1 x2 x3 x4 x5 H locs ls hp hl hF
  unfold fb_X5_number_98 at hF
  refine lv_iload hx hb dX5_number_98 (lv_at hl 5 rfl) ?_
  refine lv_iconst (v := 1) hx hb dX5_number_100 (by decide) ?_
  refine lv_iconst (v := 4) hx hb dX5_number_101 (by decide) ?_
  obtain ⟨v42, e41, hF⟩ := ob_s hF
  refine m_callS (As := [.int x5, .int (1 : Int32), .int (4 : Int32)]) (rest := []) X hp (w_X5_within e41) q1588 q1589 q144 q1590 3 rfl ds_X5_within ⟨Nat.le_of_ble_eq_true rfl, Nat.le_of_ble_eq_true rfl⟩ hl.1 rfl (Nat.le_of_ble_eq_true rfl) dX5_number_102 ⟨Nat.le_refl 0, Nat.le_refl 0⟩ (fun H locs hp => ?_)
  refine lv_if_ne (tgt := 117) hx hb dX5_number_105 (by decide) (fun c43 => ?_) (fun c43 => ?_)
  · have hF := if_n c43 hF
    refine lv_iload hx hb dX5_number_117 (lv_at hl 4 rfl) ?_
    refine lv_iload_n hx hb dX5_number_119 rfl (lv_at hl 1 rfl) ?_
    refine lv_iload_n hx hb dX5_number_120 rfl (lv_at hl 2 rfl) ?_
    obtain ⟨v45, e44, hF⟩ := ob_s hF
    refine m_callS (As := [.int x4, .int x1, .int x2]) (rest := []) X hp (w_X5_within e44) q1588 q1589 q144 q1590 3 rfl ds_X5_within ⟨Nat.le_of_ble_eq_true rfl, Nat.le_of_ble_eq_true rfl⟩ hl.1 rfl (Nat.le_of_ble_eq_true rfl) dX5_number_121 ⟨Nat.le_refl 0, Nat.le_refl 0⟩ (fun H locs hp => ?_)
    refine lv_if_ne (tgt := 133) hx hb dX5_number_124 (by decide) (fun c46 => ?_) (fun c46 => ?_)
    · have hF := if_n c46 hF
      exact b_X5_number_133 X _ _ _ _ _ _ hp (lv_sub hl [0, 4] rfl) hF
    · have hF := if_p c46 hF
      refine lv_aload_n hx hb dX5_number_127 rfl (lv_at hl 0 rfl) ?_
      refine lv_iconst (v := 2) hx hb dX5_number_128 (by decide) ?_
      refine lv_iload_n hx hb dX5_number_129 rfl (lv_at hl 3 rfl) ?_
      obtain ⟨g47, hF⟩ := gd_s hF
      obtain ⟨M50, e48, hF⟩ := ob_s hF
      refine m_callV (As := [.int (2 : Int32), .int x3]) (rest := []) X hp (w_X5_wrong e48) q1627 q1629 qs69 q144 q1630 2 rfl ds_X5_wrong ⟨Nat.le_of_ble_eq_true rfl, Nat.le_of_ble_eq_true rfl⟩ 6 (T := TX5) (N := 40) rfl (by decide) g47 hl.1 rfl (Nat.le_of_ble_eq_true rfl) dX5_number_130 ⟨Nat.le_refl 0, Nat.le_refl 0⟩ (fun H locs hp => ?_)
      exact b_X5_number_133 X _ _ _ _ _ _ hp (lv_sub hl [0, 4] rfl) hF
  · have hF := if_p c43 hF
    refine lv_aload_n hx hb dX5_number_108 rfl (lv_at hl 0 rfl) ?_
    refine lv_iconst (v := 1) hx hb dX5_number_109 (by decide) ?_
    refine lv_iload_n hx hb dX5_number_110 rfl (lv_at hl 3 rfl) ?_
    obtain ⟨g51, hF⟩ := gd_s hF
    obtain ⟨M54, e52, hF⟩ := ob_s hF
    refine m_callV (As := [.int (1 : Int32), .int x3]) (rest := []) X hp (w_X5_wrong e52) q1627 q1629 qs69 q144 q1630 2 rfl ds_X5_wrong ⟨Nat.le_of_ble_eq_true rfl, Nat.le_of_ble_eq_true rfl⟩ 6 (T := TX5) (N := 40) rfl (by decide) g51 hl.1 rfl (Nat.le_of_ble_eq_true rfl) dX5_number_111 ⟨Nat.le_refl 0, Nat.le_refl 0⟩ (fun H locs hp => ?_)
    refine lv_goto (tgt := 133) hx hb dX5_number_114 (by decide) ?_
    exact b_X5_number_133 X _ _ _ _ _ _ hp (lv_sub hl [0, 4] rfl) hF
def fb_X5_number_25 (S : mSh) : Nat → mMm → Nat → Int32 → Int32 → Int32 → Int32 → Int32 → Option (Int32 × mMm)
  | 0, _, _, _, _, _, _, _ => none
  | t + 1, M, x0, x1, x2, x3, x4, x5 => ob (rI S M x0 6 9) fun v14 => ob (rI S M x0 6 8) fun v16 => (if v16 ≤ v14 then (fb_X5_number_98 S M x0 x1 x2 x3 x4 x5) else ob (rR S M x0 6 15) fun v19 => ob (rI S M x0 6 9) fun v21 => ob (aI S M v19 100 v21) fun v23 => ob (f_X5_isDigit v23) fun v26 => (if v26 = 0 then (fb_X5_number_98 S M x0 x1 x2 x3 x4 x5) else (if (4 : Int32) ≤ x5 then (fb_X5_number_80 S (fb_X5_number_25 S t) M x0 x1 x2 x3 x5 x4) else ob (rR S M x0 6 15) fun v29 => ob (rI S M x0 6 9) fun v31 => ob (aI S M v29 100 v31) fun v33 => (fb_X5_number_80 S (fb_X5_number_25 S t) M x0 x1 x2 x3 x5 ((((10 : Int32) * x4) + v33) - (48 : Int32))))))
theorem b_X5_number_25 {r : Int32} {M' : mMm} (X : mCx D n0 P p m c cX5_number 6 s args yX5_number.cls meth (some .int)) : ∀ t : Nat, ∀ (M : mMm) (x0 : Nat) (x1 : Int32) (x2 : Int32) (x3 : Int32) (x4 : Int32) (x5 : Int32) (H : Heap) (locs : List Loc) (ls : Array Slot), mHp D n0 S M n s H locs → lv_has ls 6 [(0, .ref x0), (1, .int x1), (2, .int x2), (3, .int x3), (4, .int x4), (5, .int x5)] → fb_X5_number_25 S t M x0 x1 x2 x3 x4 x5 = some (r, M') → W p l e Rm_X5_number s m args below meth c H locs 0 0 (MQ below (mQ D n0 (some (.int r)) S M' n) args s 0 0 (mA n0)) (F0 m 25 ls []) := by
  have hx := X.1.1
  have hb := X.1.2.1
  have hown := X.1.2.2.2.1
  have hts := X.1.2.2.2.2
  intro t
  induction t with
  | zero =>
    intro M x0 x1 x2 x3 x4 x5 H locs ls hp hl hF
    have hF : none = some (r, M') := hF
    cases hF
  | succ t ih =>
    intro M x0 x1 x2 x3 x4 x5 H locs ls hp hl hF
    rw [fb_X5_number_25] at hF
    refine lv_aload_n hx hb dX5_number_25 rfl (lv_at hl 0 rfl) ?_
    obtain ⟨v14, e15, hF⟩ := ob_s hF
    refine m_getI X hp e15 kX5 (Nat.le_of_ble_eq_true rfl) q1468 dX5_number_26 ?_
    refine lv_aload_n hx hb dX5_number_29 rfl (lv_at hl 0 rfl) ?_
    obtain ⟨v16, e17, hF⟩ := ob_s hF
    refine m_getI X hp e17 kX5 (Nat.le_of_ble_eq_true rfl) q1467 dX5_number_30 ?_
    refine lv_icmp_ge (tgt := 98) hx hb dX5_number_33 (by decide) (fun c18 => ?_) (fun c18 => ?_)
    · have hF := if_p c18 hF
      exact b_X5_number_98 X _ _ _ _ _ _ _ _ _ _ hp (lv_sub hl [0, 1, 2, 3, 4, 5] rfl) hF
    · have hF := if_n c18 hF
      refine lv_aload_n hx hb dX5_number_36 rfl (lv_at hl 0 rfl) ?_
      obtain ⟨v19, e20, hF⟩ := ob_s hF
      refine m_getR X hp e20 kX5 (Nat.le_of_ble_eq_true rfl) q1474 dX5_number_37 ?_
      refine lv_aload_n hx hb dX5_number_40 rfl (lv_at hl 0 rfl) ?_
      obtain ⟨v21, e22, hF⟩ := ob_s hF
      refine m_getI X hp e22 kX5 (Nat.le_of_ble_eq_true rfl) q1468 dX5_number_41 ?_
      obtain ⟨v23, e24, hF⟩ := ob_s hF
      refine m_iaI X hp e24 dX5_number_44 ?_
      obtain ⟨v26, e25, hF⟩ := ob_s hF
      refine m_callS (As := [.int v23]) (rest := []) X hp (w_X5_isDigit e25) q1647 q1648 q144 q1649 1 rfl ds_X5_isDigit ⟨Nat.le_of_ble_eq_true rfl, Nat.le_of_ble_eq_true rfl⟩ hl.1 rfl (Nat.le_of_ble_eq_true rfl) dX5_number_45 ⟨Nat.le_refl 0, Nat.le_refl 0⟩ (fun H locs hp => ?_)
      refine lv_if_eq (tgt := 98) hx hb dX5_number_48 (by decide) (fun c27 => ?_) (fun c27 => ?_)
      · have hF := if_p c27 hF
        exact b_X5_number_98 X _ _ _ _ _ _ _ _ _ _ hp (lv_sub hl [0, 1, 2, 3, 4, 5] rfl) hF
      · have hF := if_n c27 hF
        refine lv_iload hx hb dX5_number_51 (lv_at hl 5 rfl) ?_
        refine lv_iconst (v := 4) hx hb dX5_number_53 (by decide) ?_
        refine lv_icmp_ge (tgt := 78) hx hb dX5_number_54 (by decide) (fun c28 => ?_) (fun c28 => ?_)
        · have hF := if_p c28 hF
          refine lv_iload hx hb dX5_number_78 (lv_at hl 4 rfl) ?_
          exact b_X5_number_80 X _ ih _ _ _ _ _ _ _ _ _ _ hp (lv_sub hl [0, 1, 2, 3, 5] rfl) hF
        · have hF := if_n c28 hF
          refine lv_bipush (v := 10) hx hb dX5_number_57 (by decide) ?_
          refine lv_iload hx hb dX5_number_59 (lv_at hl 4 rfl) ?_
          refine lv_imul hx hb dX5_number_61 ?_
          refine lv_aload_n hx hb dX5_number_62 rfl (lv_at hl 0 rfl) ?_
          obtain ⟨v29, e30, hF⟩ := ob_s hF
          refine m_getR X hp e30 kX5 (Nat.le_of_ble_eq_true rfl) q1474 dX5_number_63 ?_
          refine lv_aload_n hx hb dX5_number_66 rfl (lv_at hl 0 rfl) ?_
          obtain ⟨v31, e32, hF⟩ := ob_s hF
          refine m_getI X hp e32 kX5 (Nat.le_of_ble_eq_true rfl) q1468 dX5_number_67 ?_
          obtain ⟨v33, e34, hF⟩ := ob_s hF
          refine m_iaI X hp e34 dX5_number_70 ?_
          refine lv_iadd hx hb dX5_number_71 ?_
          refine lv_bipush (v := 48) hx hb dX5_number_72 (by decide) ?_
          refine lv_isub hx hb dX5_number_74 ?_
          refine lv_goto (tgt := 80) hx hb dX5_number_75 (by decide) ?_
          exact b_X5_number_80 X _ ih _ _ _ _ _ _ _ _ _ _ hp (lv_sub hl [0, 1, 2, 3, 5] rfl) hF
def f_X5_number (S : mSh) (M : mMm) (x0 : Nat) (x1 : Int32) (x2 : Int32) : Option (Int32 × mMm) := gd ((S x0).1 = 6) (ob (f_X5_fine S M x0) fun v3 => (if v3 = 0 then some ((0 : Int32), M) else ob (f_X5_here S M x0) fun ⟨v6, M7⟩ => ob (rI S M7 x0 6 9) fun v8 => nm ((0 : Int32)) fun v10 => nm ((0 : Int32)) fun v12 => (fb_X5_number_25 S FU M7 x0 x1 x2 v8 v10 v12)))
theorem w_X5_number {x0 : Nat} {x1 : Int32} {x2 : Int32} {r : Int32} {M' : mMm} (hF : f_X5_number S M x0 x1 x2 = some (r, M')) : mCt l D n0 P yX5_number cX5_number 6 (some .int) 1 22 0 0 [.ref x0, .int x1, .int x2] S M n (some (.int r)) S M' n := by
  refine m_ofW (by decide) (Nat.le_of_ble_eq_true rfl) (fun p e s m below meth c X hnm hp ls hl => ?_)
  have hx := X.1.1
  have hb := X.1.2.1
  have hown := X.1.2.2.2.1
  have hts := X.1.2.2.2.2
  have hl : lv_has ls 6 [(0, .ref x0), (1, .int x1), (2, .int x2)] := hl
  unfold f_X5_number at hF
  refine lv_aload_n hx hb dX5_number_0 rfl (lv_at hl 0 rfl) ?_
  obtain ⟨g1, hF⟩ := gd_s hF
  obtain ⟨v3, e2, hF⟩ := ob_s hF
  refine m_callV (As := []) (rest := []) X hp (w_X5_fine e2) q1598 q1600 qs64 q144 q1601 0 rfl ds_X5_fine ⟨Nat.le_of_ble_eq_true rfl, Nat.le_of_ble_eq_true rfl⟩ 6 (T := TX5) (N := 40) rfl (by decide) g1 hl.1 rfl (Nat.le_of_ble_eq_true rfl) dX5_number_1 ⟨Nat.le_refl 0, Nat.le_refl 0⟩ (fun H locs hp => ?_)
  refine lv_if_ne (tgt := 9) hx hb dX5_number_4 (by decide) (fun c4 => ?_) (fun c4 => ?_)
  · have hF := if_n c4 hF
    refine lv_aload_n hx hb dX5_number_9 rfl (lv_at hl 0 rfl) ?_
    obtain ⟨⟨v6, M7⟩, e5, hF⟩ := ob_s hF
    refine m_callV (As := []) (rest := []) X hp (w_X5_here e5) q1602 q1604 qs65 q144 q1605 0 rfl ds_X5_here ⟨Nat.le_of_ble_eq_true rfl, Nat.le_of_ble_eq_true rfl⟩ 6 (T := TX5) (N := 40) rfl (by decide) g1 hl.1 rfl (Nat.le_of_ble_eq_true rfl) dX5_number_10 ⟨Nat.le_refl 0, Nat.le_refl 0⟩ (fun H locs hp => ?_)
    refine lv_pop hx hb dX5_number_13 rfl ?_
    refine lv_aload_n hx hb dX5_number_14 rfl (lv_at hl 0 rfl) ?_
    obtain ⟨v8, e9, hF⟩ := ob_s hF
    refine m_getI X hp e9 kX5 (Nat.le_of_ble_eq_true rfl) q1468 dX5_number_15 ?_
    refine lv_istore_n (lv' := [(3, .int v8), (0, .ref x0), (1, .int x1), (2, .int x2)]) hx hb dX5_number_18 rfl hl (by decide) rfl (fun ls hl => ?_)
    refine lv_iconst (v := 0) hx hb dX5_number_19 (by decide) ?_
    refine lv_topi (fun v10 ev11 => ?_)
    have hF := nm_s hF ev11
    refine lv_istore (lv' := [(4, .int v10), (3, .int v8), (0, .ref x0), (1, .int x1), (2, .int x2)]) hx hb dX5_number_20 hl (by decide) rfl (fun ls hl => ?_)
    refine lv_iconst (v := 0) hx hb dX5_number_22 (by decide) ?_
    refine lv_topi (fun v12 ev13 => ?_)
    have hF := nm_s hF ev13
    refine lv_istore (lv' := [(5, .int v12), (4, .int v10), (3, .int v8), (0, .ref x0), (1, .int x1), (2, .int x2)]) hx hb dX5_number_23 hl (by decide) rfl (fun ls hl => ?_)
    exact b_X5_number_25 X _ _ _ _ _ _ _ _ _ _ _ hp (lv_sub hl [3, 4, 5, 2, 1, 0] rfl) hF
  · have hF := if_p c4 hF
    refine lv_iconst (v := 0) hx hb dX5_number_7 (by decide) ?_
    cases hF
    exact m_iret X hp dX5_number_8
end
section
variable {l : Launch} {D : va_G} {n0 : Nat} {P : mP} {S : mSh} {M : mMm} {n : Nat} {p : Program} {e : Env} {s : State} {m : MethodId} {args : Array Value} {below : List Frame} {meth : Method} {c : Code}
abbrev Rm_X5_of : Room := { frames := 4, cells := 0, slots := 0, locals := 93 }
def fb_X5_of_78 (S : mSh) (M : mMm) (x0 : Nat) (x1 : Int32) (x2 : Int32) : Option (Int32 × mMm) := gd ((S x0).1 = 6) (ob (f_X5_has S M x0 x1 x2) fun v24 => some (v24, M))
theorem b_X5_of_78 {r : Int32} {M' : mMm} (X : mCx D n0 P p m c cX5_of 3 s args yX5_of.cls meth (some .int)) : ∀ (M : mMm) (x0 : Nat) (x1 : Int32) (x2 : Int32) (H : Heap) (locs : List Loc) (ls : Array Slot), mHp D n0 S M n s H locs → lv_has ls 3 [(0, .ref x0), (1, .int x1), (2, .int x2)] → fb_X5_of_78 S M x0 x1 x2 = some (r, M') → W p l e Rm_X5_of s m args below meth c H locs 0 0 (MQ below (mQ D n0 (some (.int r)) S M' n) args s 0 0 (mA n0)) (F0 m 78 ls []) := by
  have hx := X.1.1
  have hb := X.1.2.1
  have hown := X.1.2.2.2.1
  have hts := X.1.2.2.2.2
  intro M x0 x1 x2 H locs ls hp hl hF
  unfold fb_X5_of_78 at hF
  refine lv_aload_n hx hb dX5_of_78 rfl (lv_at hl 0 rfl) ?_
  refine lv_iload_n hx hb dX5_of_79 rfl (lv_at hl 1 rfl) ?_
  refine lv_iload_n hx hb dX5_of_80 rfl (lv_at hl 2 rfl) ?_
  obtain ⟨g22, hF⟩ := gd_s hF
  obtain ⟨v24, e23, hF⟩ := ob_s hF
  refine m_callV (As := [.int x1, .int x2]) (rest := []) X hp (w_X5_has e23) q1727 q1729 qs89 q144 q1730 2 rfl ds_X5_has ⟨Nat.le_of_ble_eq_true rfl, Nat.le_of_ble_eq_true rfl⟩ 6 (T := TX5) (N := 40) rfl (by decide) g22 hl.1 rfl (Nat.le_of_ble_eq_true rfl) dX5_of_81 ⟨Nat.le_refl 0, Nat.le_refl 0⟩ (fun H locs hp => ?_)
  cases hF
  exact m_iret X hp dX5_of_84
def f_X5_of (S : mSh) (M : mMm) (x0 : Nat) (x1 : Int32) (x2 : Int32) : Option (Int32 × mMm) := gd ((S x0).1 = 6) (ob (f_X5_isWalker S M x0 x1) fun v3 => (if v3 = 0 then some ((-2 : Int32), M) else ob (f_X5_within x2 (0 : Int32) (13 : Int32)) fun v6 => (if v6 = 0 then some ((-2 : Int32), M) else ob (f_X5_take S M x0) fun M10 => (if x2 ≤ (10 : Int32) then (if x2 ≤ (7 : Int32) then (if x2 ≤ (1 : Int32) then (fb_X5_of_78 S M10 x0 x1 x2) else ob (f_X5_has S M10 x0 x1 (1 : Int32)) fun v15 => (if v15 = 0 then some ((-1 : Int32), M10) else (fb_X5_of_78 S M10 x0 x1 x2))) else ob (f_X5_has S M10 x0 x1 (((9 : Int32) + x2) - (8 : Int32))) fun v18 => some (v18, M10)) else ob (f_X5_tells S M10 x0 (x2 - (11 : Int32)) x1) fun ⟨v20, M21⟩ => some (v20, M21)))))
theorem w_X5_of {x0 : Nat} {x1 : Int32} {x2 : Int32} {r : Int32} {M' : mMm} (hF : f_X5_of S M x0 x1 x2 = some (r, M')) : mCt l D n0 P yX5_of cX5_of 3 (some .int) 4 93 0 0 [.ref x0, .int x1, .int x2] S M n (some (.int r)) S M' n := by
  refine m_ofW (by decide) (Nat.le_of_ble_eq_true rfl) (fun p e s m below meth c X hnm hp ls hl => ?_)
  have hx := X.1.1
  have hb := X.1.2.1
  have hown := X.1.2.2.2.1
  have hts := X.1.2.2.2.2
  have hl : lv_has ls 3 [(0, .ref x0), (1, .int x1), (2, .int x2)] := hl
  unfold f_X5_of at hF
  refine lv_aload_n hx hb dX5_of_0 rfl (lv_at hl 0 rfl) ?_
  refine lv_iload_n hx hb dX5_of_1 rfl (lv_at hl 1 rfl) ?_
  obtain ⟨g1, hF⟩ := gd_s hF
  obtain ⟨v3, e2, hF⟩ := ob_s hF
  refine m_callV (As := [.int x1]) (rest := []) X hp (w_X5_isWalker e2) q1847 q1849 qs111 q144 q1850 1 rfl ds_X5_isWalker ⟨Nat.le_of_ble_eq_true rfl, Nat.le_of_ble_eq_true rfl⟩ 6 (T := TX5) (N := 40) rfl (by decide) g1 hl.1 rfl (Nat.le_of_ble_eq_true rfl) dX5_of_2 ⟨Nat.le_refl 0, Nat.le_refl 0⟩ (fun H locs hp => ?_)
  refine lv_if_eq (tgt := 18) hx hb dX5_of_5 (by decide) (fun c4 => ?_) (fun c4 => ?_)
  · have hF := if_p c4 hF
    refine lv_bipush (v := -2) hx hb dX5_of_18 (by decide) ?_
    cases hF
    exact m_iret X hp dX5_of_20
  · have hF := if_n c4 hF
    refine lv_iload_n hx hb dX5_of_8 rfl (lv_at hl 2 rfl) ?_
    refine lv_iconst (v := 0) hx hb dX5_of_9 (by decide) ?_
    refine lv_bipush (v := 13) hx hb dX5_of_10 (by decide) ?_
    obtain ⟨v6, e5, hF⟩ := ob_s hF
    refine m_callS (As := [.int x2, .int (0 : Int32), .int (13 : Int32)]) (rest := []) X hp (w_X5_within e5) q1588 q1589 q144 q1590 3 rfl ds_X5_within ⟨Nat.le_of_ble_eq_true rfl, Nat.le_of_ble_eq_true rfl⟩ hl.1 rfl (Nat.le_of_ble_eq_true rfl) dX5_of_12 ⟨Nat.le_refl 0, Nat.le_refl 0⟩ (fun H locs hp => ?_)
    refine lv_if_ne (tgt := 21) hx hb dX5_of_15 (by decide) (fun c7 => ?_) (fun c7 => ?_)
    · have hF := if_n c7 hF
      refine lv_aload_n hx hb dX5_of_21 rfl (lv_at hl 0 rfl) ?_
      obtain ⟨M10, e8, hF⟩ := ob_s hF
      refine m_callV (As := []) (rest := []) X hp (w_X5_take e8) q1871 q1873 qs112 q144 q1874 0 rfl ds_X5_take ⟨Nat.le_of_ble_eq_true rfl, Nat.le_of_ble_eq_true rfl⟩ 6 (T := TX5) (N := 40) rfl (by decide) g1 hl.1 rfl (Nat.le_of_ble_eq_true rfl) dX5_of_22 ⟨Nat.le_refl 0, Nat.le_refl 0⟩ (fun H locs hp => ?_)
      refine lv_iload_n hx hb dX5_of_25 rfl (lv_at hl 2 rfl) ?_
      refine lv_bipush (v := 10) hx hb dX5_of_26 (by decide) ?_
      refine lv_icmp_le (tgt := 41) hx hb dX5_of_28 (by decide) (fun c11 => ?_) (fun c11 => ?_)
      · have hF := if_p c11 hF
        refine lv_iload_n hx hb dX5_of_41 rfl (lv_at hl 2 rfl) ?_
        refine lv_bipush (v := 7) hx hb dX5_of_42 (by decide) ?_
        refine lv_icmp_le (tgt := 60) hx hb dX5_of_44 (by decide) (fun c12 => ?_) (fun c12 => ?_)
        · have hF := if_p c12 hF
          refine lv_iload_n hx hb dX5_of_60 rfl (lv_at hl 2 rfl) ?_
          refine lv_iconst (v := 1) hx hb dX5_of_61 (by decide) ?_
          refine lv_icmp_le (tgt := 78) hx hb dX5_of_62 (by decide) (fun c13 => ?_) (fun c13 => ?_)
          · have hF := if_p c13 hF
            exact b_X5_of_78 X _ _ _ _ _ _ _ hp (lv_sub hl [0, 1, 2] rfl) hF
          · have hF := if_n c13 hF
            refine lv_aload_n hx hb dX5_of_65 rfl (lv_at hl 0 rfl) ?_
            refine lv_iload_n hx hb dX5_of_66 rfl (lv_at hl 1 rfl) ?_
            refine lv_iconst (v := 1) hx hb dX5_of_67 (by decide) ?_
            obtain ⟨v15, e14, hF⟩ := ob_s hF
            refine m_callV (As := [.int x1, .int (1 : Int32)]) (rest := []) X hp (w_X5_has e14) q1727 q1729 qs89 q144 q1730 2 rfl ds_X5_has ⟨Nat.le_of_ble_eq_true rfl, Nat.le_of_ble_eq_true rfl⟩ 6 (T := TX5) (N := 40) rfl (by decide) g1 hl.1 rfl (Nat.le_of_ble_eq_true rfl) dX5_of_68 ⟨Nat.le_refl 0, Nat.le_refl 0⟩ (fun H locs hp => ?_)
            refine lv_if_ne (tgt := 78) hx hb dX5_of_71 (by decide) (fun c16 => ?_) (fun c16 => ?_)
            · have hF := if_n c16 hF
              exact b_X5_of_78 X _ _ _ _ _ _ _ hp (lv_sub hl [0, 1, 2] rfl) hF
            · have hF := if_p c16 hF
              refine lv_iconst (v := -1) hx hb dX5_of_74 (by decide) ?_
              refine lv_goto (tgt := 84) hx hb dX5_of_75 (by decide) ?_
              cases hF
              exact m_iret X hp dX5_of_84
        · have hF := if_n c12 hF
          refine lv_aload_n hx hb dX5_of_47 rfl (lv_at hl 0 rfl) ?_
          refine lv_iload_n hx hb dX5_of_48 rfl (lv_at hl 1 rfl) ?_
          refine lv_bipush (v := 9) hx hb dX5_of_49 (by decide) ?_
          refine lv_iload_n hx hb dX5_of_51 rfl (lv_at hl 2 rfl) ?_
          refine lv_iadd hx hb dX5_of_52 ?_
          refine lv_bipush (v := 8) hx hb dX5_of_53 (by decide) ?_
          refine lv_isub hx hb dX5_of_55 ?_
          obtain ⟨v18, e17, hF⟩ := ob_s hF
          refine m_callV (As := [.int x1, .int (((9 : Int32) + x2) - (8 : Int32))]) (rest := []) X hp (w_X5_has e17) q1727 q1729 qs89 q144 q1730 2 rfl ds_X5_has ⟨Nat.le_of_ble_eq_true rfl, Nat.le_of_ble_eq_true rfl⟩ 6 (T := TX5) (N := 40) rfl (by decide) g1 hl.1 rfl (Nat.le_of_ble_eq_true rfl) dX5_of_56 ⟨Nat.le_refl 0, Nat.le_refl 0⟩ (fun H locs hp => ?_)
          cases hF
          exact m_iret X hp dX5_of_59
      · have hF := if_n c11 hF
        refine lv_aload_n hx hb dX5_of_31 rfl (lv_at hl 0 rfl) ?_
        refine lv_iload_n hx hb dX5_of_32 rfl (lv_at hl 2 rfl) ?_
        refine lv_bipush (v := 11) hx hb dX5_of_33 (by decide) ?_
        refine lv_isub hx hb dX5_of_35 ?_
        refine lv_iload_n hx hb dX5_of_36 rfl (lv_at hl 1 rfl) ?_
        obtain ⟨⟨v20, M21⟩, e19, hF⟩ := ob_s hF
        refine m_callV (As := [.int (x2 - (11 : Int32)), .int x1]) (rest := []) X hp (w_X5_tells e19) q1779 q1781 qs99 q144 q1782 2 rfl ds_X5_tells ⟨Nat.le_of_ble_eq_true rfl, Nat.le_of_ble_eq_true rfl⟩ 6 (T := TX5) (N := 40) rfl (by decide) g1 hl.1 rfl (Nat.le_of_ble_eq_true rfl) dX5_of_37 ⟨Nat.le_refl 0, Nat.le_refl 0⟩ (fun H locs hp => ?_)
        cases hF
        exact m_iret X hp dX5_of_40
    · have hF := if_p c7 hF
      refine lv_bipush (v := -2) hx hb dX5_of_18 (by decide) ?_
      cases hF
      exact m_iret X hp dX5_of_20
end
section
variable {l : Launch} {D : va_G} {n0 : Nat} {P : mP} {S : mSh} {M : mMm} {n : Nat} {p : Program} {e : Env} {s : State} {m : MethodId} {args : Array Value} {below : List Frame} {meth : Method} {c : Code}
abbrev Rm_X5_one : Room := { frames := 2, cells := 0, slots := 0, locals := 47 }
def fb_X5_one_40 (S : mSh) (M : mMm) : Nat → Nat → Int32 → Int32 → Option Int32
  | 0, _, _, _ => none
  | t + 1, x0, x2, x3 => (if ((2 : Int32) * x2) ≤ x3 then (if x2 = 0 then some (1 : Int32) else some (0 : Int32)) else gd ((S x0).1 = 6) (ob (f_X5_areAlike S M x0 x3 (-1 : Int32)) fun v21 => (if v21 = 0 then nm (x3 + (1 : Int32)) fun v23 => (fb_X5_one_40 S M t x0 x2 v23) else some (1 : Int32))))
theorem b_X5_one_40 {r : Int32} (X : mCx D n0 P p m c cX5_one 7 s args yX5_one.cls meth (some .int)) : ∀ t : Nat, ∀ (x0 : Nat) (x2 : Int32) (x3 : Int32) (H : Heap) (locs : List Loc) (ls : Array Slot), mHp D n0 S M n s H locs → lv_has ls 7 [(0, .ref x0), (2, .int x2), (3, .int x3)] → fb_X5_one_40 S M t x0 x2 x3 = some r → W p l e Rm_X5_one s m args below meth c H locs 0 0 (MQ below (mQ D n0 (some (.int r)) S M n) args s 0 0 (mA n0)) (F0 m 40 ls []) := by
  have hx := X.1.1
  have hb := X.1.2.1
  have hown := X.1.2.2.2.1
  have hts := X.1.2.2.2.2
  intro t
  induction t with
  | zero =>
    intro x0 x2 x3 H locs ls hp hl hF
    have hF : none = some r := hF
    cases hF
  | succ t ih =>
    intro x0 x2 x3 H locs ls hp hl hF
    rw [fb_X5_one_40] at hF
    refine lv_iload_n hx hb dX5_one_40 rfl (lv_at hl 2 rfl) ?_
    refine lv_iconst (v := 2) hx hb dX5_one_41 (by decide) ?_
    refine lv_iload_n hx hb dX5_one_42 rfl (lv_at hl 1 rfl) ?_
    refine lv_imul hx hb dX5_one_43 ?_
    refine lv_icmp_ge (tgt := 64) hx hb dX5_one_44 (by decide) (fun c17 => ?_) (fun c17 => ?_)
    · have hF := if_p c17 hF
      refine lv_iload_n hx hb dX5_one_64 rfl (lv_at hl 1 rfl) ?_
      refine lv_if_ne (tgt := 72) hx hb dX5_one_65 (by decide) (fun c18 => ?_) (fun c18 => ?_)
      · have hF := if_n c18 hF
        refine lv_iconst (v := 0) hx hb dX5_one_72 (by decide) ?_
        cases hF
        exact m_iret X hp dX5_one_73
      · have hF := if_p c18 hF
        refine lv_iconst (v := 1) hx hb dX5_one_68 (by decide) ?_
        refine lv_goto (tgt := 73) hx hb dX5_one_69 (by decide) ?_
        cases hF
        exact m_iret X hp dX5_one_73
    · have hF := if_n c17 hF
      refine lv_aload_n hx hb dX5_one_47 rfl (lv_at hl 0 rfl) ?_
      refine lv_iload_n hx hb dX5_one_48 rfl (lv_at hl 2 rfl) ?_
      refine lv_iconst (v := -1) hx hb dX5_one_49 (by decide) ?_
      obtain ⟨g19, hF⟩ := gd_s hF
      obtain ⟨v21, e20, hF⟩ := ob_s hF
      refine m_callV (As := [.int x3, .int (-1 : Int32)]) (rest := []) X hp (w_X5_areAlike e20) q1965 q1967 qs122 q144 q1968 2 rfl ds_X5_areAlike ⟨Nat.le_of_ble_eq_true rfl, Nat.le_of_ble_eq_true rfl⟩ 6 (T := TX5) (N := 40) rfl (by decide) g19 hl.1 rfl (Nat.le_of_ble_eq_true rfl) dX5_one_50 ⟨Nat.le_refl 0, Nat.le_refl 0⟩ (fun H locs hp => ?_)
      refine lv_if_eq (tgt := 58) hx hb dX5_one_53 (by decide) (fun c22 => ?_) (fun c22 => ?_)
      · have hF := if_p c22 hF
        obtain ⟨v23, ev24⟩ : ∃ y : Int32, y = x3 + (1 : Int32) := ⟨_, rfl⟩
        have hF := nm_s hF ev24
        refine lv_iinc (v := v23) (lv' := [(3, .int v23), (0, .ref x0), (2, .int x2)]) hx hb dX5_one_58 hl (k := 2) rfl (by rw [ev24]; rfl) (by decide) rfl (fun ls hl => ?_)
        refine lv_goto (tgt := 40) hx hb dX5_one_61 (by decide) ?_
        exact ih _ _ _ _ _ _ hp (lv_sub hl [1, 2, 0] rfl) hF
      · have hF := if_n c22 hF
        refine lv_iconst (v := 1) hx hb dX5_one_56 (by decide) ?_
        cases hF
        exact m_iret X hp dX5_one_57
def fb_X5_one_129 (S : mSh) (M : mMm) (k101 : Nat → Int32 → Int32 → Int32 → Int32 → Int32 → Option Int32) (x0 : Nat) (x2 : Int32) (x3 : Int32) (x4 : Int32) (x6 : Int32) (y0 : Int32) : Option Int32 := nm (x6 + (1 : Int32)) fun v39 => (k101 x0 x2 x3 x4 y0 v39)
theorem b_X5_one_129 {r : Int32} (X : mCx D n0 P p m c cX5_one 7 s args yX5_one.cls meth (some .int)) (k101 : Nat → Int32 → Int32 → Int32 → Int32 → Int32 → Option Int32) (hk101 : ∀ (x0 : Nat) (x2 : Int32) (x3 : Int32) (x4 : Int32) (x5 : Int32) (x6 : Int32) (H : Heap) (locs : List Loc) (ls : Array Slot), mHp D n0 S M n s H locs → lv_has ls 7 [(0, .ref x0), (2, .int x2), (3, .int x3), (4, .int x4), (5, .int x5), (6, .int x6)] → k101 x0 x2 x3 x4 x5 x6 = some r → W p l e Rm_X5_one s m args below meth c H locs 0 0 (MQ below (mQ D n0 (some (.int r)) S M n) args s 0 0 (mA n0)) (F0 m 101 ls [])) : ∀ (x0 : Nat) (x2 : Int32) (x3 : Int32) (x4 : Int32) (x6 : Int32) (y0 : Int32) (H : Heap) (locs : List Loc) (ls : Array Slot), mHp D n0 S M n s H locs → lv_has ls 7 [(0, .ref x0), (2, .int x2), (3, .int x3), (4, .int x4), (6, .int x6)] → fb_X5_one_129 S M k101 x0 x2 x3 x4 x6 y0 = some r → W p l e Rm_X5_one s m args below meth c H locs 0 0 (MQ below (mQ D n0 (some (.int r)) S M n) args s 0 0 (mA n0)) (F0 m 129 ls [.int y0]) := by
  have hx := X.1.1
  have hb := X.1.2.1
  have hown := X.1.2.2.2.1
  have hts := X.1.2.2.2.2
  intro x0 x2 x3 x4 x6 y0 H locs ls hp hl hF
  unfold fb_X5_one_129 at hF
  refine lv_istore (lv' := [(5, .int y0), (0, .ref x0), (2, .int x2), (3, .int x3), (4, .int x4), (6, .int x6)]) hx hb dX5_one_129 hl (by decide) rfl (fun ls hl => ?_)
  obtain ⟨v39, ev40⟩ : ∃ y : Int32, y = x6 + (1 : Int32) := ⟨_, rfl⟩
  have hF := nm_s hF ev40
  refine lv_iinc (v := v39) (lv' := [(6, .int v39), (5, .int y0), (0, .ref x0), (2, .int x2), (3, .int x3), (4, .int x4)]) hx hb dX5_one_131 hl (k := 5) rfl (by rw [ev40]; rfl) (by decide) rfl (fun ls hl => ?_)
  refine lv_goto (tgt := 101) hx hb dX5_one_134 (by decide) ?_
  exact hk101 _ _ _ _ _ _ _ _ _ hp (lv_sub hl [2, 3, 4, 5, 1, 0] rfl) hF
def fb_X5_one_148 (S : mSh) (M : mMm) (k87 : Nat → Int32 → Int32 → Int32 → Option Int32) (x0 : Nat) (x2 : Int32) (x4 : Int32) (y0 : Int32) (y1 : Int32) : Option Int32 := nm ((y1 + y0)) fun v41 => nm (x4 + (1 : Int32)) fun v43 => (k87 x0 x2 v41 v43)
theorem b_X5_one_148 {r : Int32} (X : mCx D n0 P p m c cX5_one 7 s args yX5_one.cls meth (some .int)) (k87 : Nat → Int32 → Int32 → Int32 → Option Int32) (hk87 : ∀ (x0 : Nat) (x2 : Int32) (x3 : Int32) (x4 : Int32) (H : Heap) (locs : List Loc) (ls : Array Slot), mHp D n0 S M n s H locs → lv_has ls 7 [(0, .ref x0), (2, .int x2), (3, .int x3), (4, .int x4)] → k87 x0 x2 x3 x4 = some r → W p l e Rm_X5_one s m args below meth c H locs 0 0 (MQ below (mQ D n0 (some (.int r)) S M n) args s 0 0 (mA n0)) (F0 m 87 ls [])) : ∀ (x0 : Nat) (x2 : Int32) (x4 : Int32) (y0 : Int32) (y1 : Int32) (H : Heap) (locs : List Loc) (ls : Array Slot), mHp D n0 S M n s H locs → lv_has ls 7 [(0, .ref x0), (2, .int x2), (4, .int x4)] → fb_X5_one_148 S M k87 x0 x2 x4 y0 y1 = some r → W p l e Rm_X5_one s m args below meth c H locs 0 0 (MQ below (mQ D n0 (some (.int r)) S M n) args s 0 0 (mA n0)) (F0 m 148 ls [.int y0, .int y1]) := by
  have hx := X.1.1
  have hb := X.1.2.1
  have hown := X.1.2.2.2.1
  have hts := X.1.2.2.2.2
  intro x0 x2 x4 y0 y1 H locs ls hp hl hF
  unfold fb_X5_one_148 at hF
  refine lv_iadd hx hb dX5_one_148 ?_
  refine lv_topi (fun v41 ev42 => ?_)
  have hF := nm_s hF ev42
  refine lv_istore_n (lv' := [(3, .int v41), (0, .ref x0), (2, .int x2), (4, .int x4)]) hx hb dX5_one_149 rfl hl (by decide) rfl (fun ls hl => ?_)
  obtain ⟨v43, ev44⟩ : ∃ y : Int32, y = x4 + (1 : Int32) := ⟨_, rfl⟩
  have hF := nm_s hF ev44
  refine lv_iinc (v := v43) (lv' := [(4, .int v43), (3, .int v41), (0, .ref x0), (2, .int x2)]) hx hb dX5_one_150 hl (k := 3) rfl (by rw [ev44]; rfl) (by decide) rfl (fun ls hl => ?_)
  refine lv_goto (tgt := 87) hx hb dX5_one_153 (by decide) ?_
  exact hk87 _ _ _ _ _ _ _ hp (lv_sub hl [2, 3, 1, 0] rfl) hF
def fb_X5_one_101 (S : mSh) (M : mMm) (k87 : Nat → Int32 → Int32 → Int32 → Option Int32) : Nat → Nat → Int32 → Int32 → Int32 → Int32 → Int32 → Option Int32
  | 0, _, _, _, _, _, _ => none
  | t + 1, x0, x2, x3, x4, x5, x6 => (if x4 ≤ x6 then (if x5 = 0 then (fb_X5_one_148 S M k87 x0 x2 x4 (0 : Int32) x3) else (fb_X5_one_148 S M k87 x0 x2 x4 (1 : Int32) x3)) else (if x5 = 0 then (fb_X5_one_129 S M (fb_X5_one_101 S M k87 t) x0 x2 x3 x4 x6 (0 : Int32)) else gd ((S x0).1 = 6) (ob (f_X5_areAlike S M x0 x4 x6) fun v37 => (if v37 = 0 then (fb_X5_one_129 S M (fb_X5_one_101 S M k87 t) x0 x2 x3 x4 x6 (1 : Int32)) else (fb_X5_one_129 S M (fb_X5_one_101 S M k87 t) x0 x2 x3 x4 x6 (0 : Int32))))))
theorem b_X5_one_101 {r : Int32} (X : mCx D n0 P p m c cX5_one 7 s args yX5_one.cls meth (some .int)) (k87 : Nat → Int32 → Int32 → Int32 → Option Int32) (hk87 : ∀ (x0 : Nat) (x2 : Int32) (x3 : Int32) (x4 : Int32) (H : Heap) (locs : List Loc) (ls : Array Slot), mHp D n0 S M n s H locs → lv_has ls 7 [(0, .ref x0), (2, .int x2), (3, .int x3), (4, .int x4)] → k87 x0 x2 x3 x4 = some r → W p l e Rm_X5_one s m args below meth c H locs 0 0 (MQ below (mQ D n0 (some (.int r)) S M n) args s 0 0 (mA n0)) (F0 m 87 ls [])) : ∀ t : Nat, ∀ (x0 : Nat) (x2 : Int32) (x3 : Int32) (x4 : Int32) (x5 : Int32) (x6 : Int32) (H : Heap) (locs : List Loc) (ls : Array Slot), mHp D n0 S M n s H locs → lv_has ls 7 [(0, .ref x0), (2, .int x2), (3, .int x3), (4, .int x4), (5, .int x5), (6, .int x6)] → fb_X5_one_101 S M k87 t x0 x2 x3 x4 x5 x6 = some r → W p l e Rm_X5_one s m args below meth c H locs 0 0 (MQ below (mQ D n0 (some (.int r)) S M n) args s 0 0 (mA n0)) (F0 m 101 ls []) := by
  have hx := X.1.1
  have hb := X.1.2.1
  have hown := X.1.2.2.2.1
  have hts := X.1.2.2.2.2
  intro t
  induction t with
  | zero =>
    intro x0 x2 x3 x4 x5 x6 H locs ls hp hl hF
    have hF : none = some r := hF
    cases hF
  | succ t ih =>
    intro x0 x2 x3 x4 x5 x6 H locs ls hp hl hF
    rw [fb_X5_one_101] at hF
    refine lv_iload hx hb dX5_one_101 (lv_at hl 5 rfl) ?_
    refine lv_iload hx hb dX5_one_103 (lv_at hl 3 rfl) ?_
    refine lv_icmp_ge (tgt := 137) hx hb dX5_one_105 (by decide) (fun c32 => ?_) (fun c32 => ?_)
    · have hF := if_p c32 hF
      refine lv_iload_n hx hb dX5_one_137 rfl (lv_at hl 2 rfl) ?_
      refine lv_iload hx hb dX5_one_138 (lv_at hl 4 rfl) ?_
      refine lv_if_eq (tgt := 147) hx hb dX5_one_140 (by decide) (fun c33 => ?_) (fun c33 => ?_)
      · have hF := if_p c33 hF
        refine lv_iconst (v := 0) hx hb dX5_one_147 (by decide) ?_
        exact b_X5_one_148 X _ hk87 _ _ _ _ _ _ _ _ hp (lv_sub hl [0, 1, 3] rfl) hF
      · have hF := if_n c33 hF
        refine lv_iconst (v := 1) hx hb dX5_one_143 (by decide) ?_
        refine lv_goto (tgt := 148) hx hb dX5_one_144 (by decide) ?_
        exact b_X5_one_148 X _ hk87 _ _ _ _ _ _ _ _ hp (lv_sub hl [0, 1, 3] rfl) hF
    · have hF := if_n c32 hF
      refine lv_iload hx hb dX5_one_108 (lv_at hl 4 rfl) ?_
      refine lv_if_eq (tgt := 128) hx hb dX5_one_110 (by decide) (fun c34 => ?_) (fun c34 => ?_)
      · have hF := if_p c34 hF
        refine lv_iconst (v := 0) hx hb dX5_one_128 (by decide) ?_
        exact b_X5_one_129 X _ ih _ _ _ _ _ _ _ _ _ hp (lv_sub hl [0, 1, 2, 3, 5] rfl) hF
      · have hF := if_n c34 hF
        refine lv_aload_n hx hb dX5_one_113 rfl (lv_at hl 0 rfl) ?_
        refine lv_iload hx hb dX5_one_114 (lv_at hl 3 rfl) ?_
        refine lv_iload hx hb dX5_one_116 (lv_at hl 5 rfl) ?_
        obtain ⟨g35, hF⟩ := gd_s hF
        obtain ⟨v37, e36, hF⟩ := ob_s hF
        refine m_callV (As := [.int x4, .int x6]) (rest := []) X hp (w_X5_areAlike e36) q1965 q1967 qs122 q144 q1968 2 rfl ds_X5_areAlike ⟨Nat.le_of_ble_eq_true rfl, Nat.le_of_ble_eq_true rfl⟩ 6 (T := TX5) (N := 40) rfl (by decide) g35 hl.1 rfl (Nat.le_of_ble_eq_true rfl) dX5_one_118 ⟨Nat.le_refl 0, Nat.le_refl 0⟩ (fun H locs hp => ?_)
        refine lv_if_ne (tgt := 128) hx hb dX5_one_121 (by decide) (fun c38 => ?_) (fun c38 => ?_)
        · have hF := if_n c38 hF
          refine lv_iconst (v := 0) hx hb dX5_one_128 (by decide) ?_
          exact b_X5_one_129 X _ ih _ _ _ _ _ _ _ _ _ hp (lv_sub hl [0, 1, 2, 3, 5] rfl) hF
        · have hF := if_p c38 hF
          refine lv_iconst (v := 1) hx hb dX5_one_124 (by decide) ?_
          refine lv_goto (tgt := 129) hx hb dX5_one_125 (by decide) ?_
          exact b_X5_one_129 X _ ih _ _ _ _ _ _ _ _ _ hp (lv_sub hl [0, 1, 2, 3, 5] rfl) hF
def fb_X5_one_87 (S : mSh) (M : mMm) : Nat → Nat → Int32 → Int32 → Int32 → Option Int32
  | 0, _, _, _, _ => none
  | t + 1, x0, x2, x3, x4 => (if ((2 : Int32) * x2) ≤ x4 then some x3 else nm ((1 : Int32)) fun v28 => nm ((0 : Int32)) fun v30 => (fb_X5_one_101 S M (fb_X5_one_87 S M t) FU x0 x2 x3 x4 v28 v30))
theorem b_X5_one_87 {r : Int32} (X : mCx D n0 P p m c cX5_one 7 s args yX5_one.cls meth (some .int)) : ∀ t : Nat, ∀ (x0 : Nat) (x2 : Int32) (x3 : Int32) (x4 : Int32) (H : Heap) (locs : List Loc) (ls : Array Slot), mHp D n0 S M n s H locs → lv_has ls 7 [(0, .ref x0), (2, .int x2), (3, .int x3), (4, .int x4)] → fb_X5_one_87 S M t x0 x2 x3 x4 = some r → W p l e Rm_X5_one s m args below meth c H locs 0 0 (MQ below (mQ D n0 (some (.int r)) S M n) args s 0 0 (mA n0)) (F0 m 87 ls []) := by
  have hx := X.1.1
  have hb := X.1.2.1
  have hown := X.1.2.2.2.1
  have hts := X.1.2.2.2.2
  intro t
  induction t with
  | zero =>
    intro x0 x2 x3 x4 H locs ls hp hl hF
    have hF : none = some r := hF
    cases hF
  | succ t ih =>
    intro x0 x2 x3 x4 H locs ls hp hl hF
    rw [fb_X5_one_87] at hF
    refine lv_iload hx hb dX5_one_87 (lv_at hl 3 rfl) ?_
    refine lv_iconst (v := 2) hx hb dX5_one_89 (by decide) ?_
    refine lv_iload_n hx hb dX5_one_90 rfl (lv_at hl 1 rfl) ?_
    refine lv_imul hx hb dX5_one_91 ?_
    refine lv_icmp_ge (tgt := 156) hx hb dX5_one_92 (by decide) (fun c27 => ?_) (fun c27 => ?_)
    · have hF := if_p c27 hF
      refine lv_iload_n hx hb dX5_one_156 rfl (lv_at hl 2 rfl) ?_
      cases hF
      exact m_iret X hp dX5_one_157
    · have hF := if_n c27 hF
      refine lv_iconst (v := 1) hx hb dX5_one_95 (by decide) ?_
      refine lv_topi (fun v28 ev29 => ?_)
      have hF := nm_s hF ev29
      refine lv_istore (lv' := [(5, .int v28), (0, .ref x0), (2, .int x2), (3, .int x3), (4, .int x4)]) hx hb dX5_one_96 hl (by decide) rfl (fun ls hl => ?_)
      refine lv_iconst (v := 0) hx hb dX5_one_98 (by decide) ?_
      refine lv_topi (fun v30 ev31 => ?_)
      have hF := nm_s hF ev31
      refine lv_istore (lv' := [(6, .int v30), (5, .int v28), (0, .ref x0), (2, .int x2), (3, .int x3), (4, .int x4)]) hx hb dX5_one_99 hl (by decide) rfl (fun ls hl => ?_)
      exact b_X5_one_101 X _ ih _ _ _ _ _ _ _ _ _ _ hp (lv_sub hl [2, 3, 4, 5, 1, 0] rfl) hF
def fb_X5_one_83 (S : mSh) (M : mMm) (x0 : Nat) (x2 : Int32) (y0 : Int32) : Option Int32 := nm ((0 : Int32)) fun v25 => (fb_X5_one_87 S M FU x0 x2 y0 v25)
theorem b_X5_one_83 {r : Int32} (X : mCx D n0 P p m c cX5_one 7 s args yX5_one.cls meth (some .int)) : ∀ (x0 : Nat) (x2 : Int32) (y0 : Int32) (H : Heap) (locs : List Loc) (ls : Array Slot), mHp D n0 S M n s H locs → lv_has ls 7 [(0, .ref x0), (2, .int x2)] → fb_X5_one_83 S M x0 x2 y0 = some r → W p l e Rm_X5_one s m args below meth c H locs 0 0 (MQ below (mQ D n0 (some (.int r)) S M n) args s 0 0 (mA n0)) (F0 m 83 ls [.int y0]) := by
  have hx := X.1.1
  have hb := X.1.2.1
  have hown := X.1.2.2.2.1
  have hts := X.1.2.2.2.2
  intro x0 x2 y0 H locs ls hp hl hF
  unfold fb_X5_one_83 at hF
  refine lv_istore_n (lv' := [(3, .int y0), (0, .ref x0), (2, .int x2)]) hx hb dX5_one_83 rfl hl (by decide) rfl (fun ls hl => ?_)
  refine lv_iconst (v := 0) hx hb dX5_one_84 (by decide) ?_
  refine lv_topi (fun v25 ev26 => ?_)
  have hF := nm_s hF ev26
  refine lv_istore (lv' := [(4, .int v25), (3, .int y0), (0, .ref x0), (2, .int x2)]) hx hb dX5_one_85 hl (by decide) rfl (fun ls hl => ?_)
  exact b_X5_one_87 X _ _ _ _ _ _ _ _ hp (lv_sub hl [2, 3, 1, 0] rfl) hF
def f_X5_one (S : mSh) (M : mMm) (x0 : Nat) (x1 : Int32) : Option Int32 := ob (f_X5_within x1 (0 : Int32) (1 : Int32)) fun v2 => (if v2 = 0 then some (-1 : Int32) else ob (rR S M x0 6 0) fun v4 => ob (aI S M v4 100 (2357 : Int32)) fun v6 => (if x1 = 0 then ob (rR S M x0 6 0) fun v10 => ob (aI S M v10 100 (2370 : Int32)) fun v12 => (if v6 = v12 then nm ((0 : Int32)) fun v15 => (fb_X5_one_40 S M FU x0 v6 v15) else some (0 : Int32)) else (if v6 = 0 then (fb_X5_one_83 S M x0 v6 (1 : Int32)) else (fb_X5_one_83 S M x0 v6 (0 : Int32)))))
theorem w_X5_one {x0 : Nat} {x1 : Int32} {r : Int32} (hF : f_X5_one S M x0 x1 = some r) : mCt l D n0 P yX5_one cX5_one 7 (some .int) 2 47 0 0 [.ref x0, .int x1] S M n (some (.int r)) S M n := by
  refine m_ofW (by decide) (Nat.le_of_ble_eq_true rfl) (fun p e s m below meth c X hnm hp ls hl => ?_)
  have hx := X.1.1
  have hb := X.1.2.1
  have hown := X.1.2.2.2.1
  have hts := X.1.2.2.2.2
  have hl : lv_has ls 7 [(0, .ref x0), (1, .int x1)] := hl
  unfold f_X5_one at hF
  refine lv_iload_n hx hb dX5_one_0 rfl (lv_at hl 1 rfl) ?_
  refine lv_iconst (v := 0) hx hb dX5_one_1 (by decide) ?_
  refine lv_iconst (v := 1) hx hb dX5_one_2 (by decide) ?_
  obtain ⟨v2, e1, hF⟩ := ob_s hF
  refine m_callS (As := [.int x1, .int (0 : Int32), .int (1 : Int32)]) (rest := []) X hp (w_X5_within e1) q1588 q1589 q144 q1590 3 rfl ds_X5_within ⟨Nat.le_of_ble_eq_true rfl, Nat.le_of_ble_eq_true rfl⟩ hl.1 rfl (Nat.le_of_ble_eq_true rfl) dX5_one_3 ⟨Nat.le_refl 0, Nat.le_refl 0⟩ (fun H locs hp => ?_)
  refine lv_if_ne (tgt := 11) hx hb dX5_one_6 (by decide) (fun c3 => ?_) (fun c3 => ?_)
  · have hF := if_n c3 hF
    refine lv_aload_n hx hb dX5_one_11 rfl (lv_at hl 0 rfl) ?_
    obtain ⟨v4, e5, hF⟩ := ob_s hF
    refine m_getR X hp e5 kX5 (Nat.le_of_ble_eq_true rfl) q1459 dX5_one_12 ?_
    refine lv_sipush (v := 2357) hx hb dX5_one_15 (by decide) ?_
    obtain ⟨v6, e7, hF⟩ := ob_s hF
    refine m_iaI X hp e7 dX5_one_18 ?_
    refine lv_istore_n (lv' := [(2, .int v6), (0, .ref x0), (1, .int x1)]) hx hb dX5_one_19 rfl hl (by decide) rfl (fun ls hl => ?_)
    refine lv_iload_n hx hb dX5_one_20 rfl (lv_at hl 2 rfl) ?_
    refine lv_if_ne (tgt := 74) hx hb dX5_one_21 (by decide) (fun c8 => ?_) (fun c8 => ?_)
    · have hF := if_n c8 hF
      refine lv_iload_n hx hb dX5_one_74 rfl (lv_at hl 0 rfl) ?_
      refine lv_if_ne (tgt := 82) hx hb dX5_one_75 (by decide) (fun c9 => ?_) (fun c9 => ?_)
      · have hF := if_n c9 hF
        refine lv_iconst (v := 0) hx hb dX5_one_82 (by decide) ?_
        exact b_X5_one_83 X _ _ _ _ _ _ hp (lv_sub hl [1, 0] rfl) hF
      · have hF := if_p c9 hF
        refine lv_iconst (v := 1) hx hb dX5_one_78 (by decide) ?_
        refine lv_goto (tgt := 83) hx hb dX5_one_79 (by decide) ?_
        exact b_X5_one_83 X _ _ _ _ _ _ hp (lv_sub hl [1, 0] rfl) hF
    · have hF := if_p c8 hF
      refine lv_iload_n hx hb dX5_one_24 rfl (lv_at hl 0 rfl) ?_
      refine lv_aload_n hx hb dX5_one_25 rfl (lv_at hl 1 rfl) ?_
      obtain ⟨v10, e11, hF⟩ := ob_s hF
      refine m_getR X hp e11 kX5 (Nat.le_of_ble_eq_true rfl) q1459 dX5_one_26 ?_
      refine lv_sipush (v := 2370) hx hb dX5_one_29 (by decide) ?_
      obtain ⟨v12, e13, hF⟩ := ob_s hF
      refine m_iaI X hp e13 dX5_one_32 ?_
      refine lv_icmp_eq (tgt := 38) hx hb dX5_one_33 (by decide) (fun c14 => ?_) (fun c14 => ?_)
      · have hF := if_p c14 hF
        refine lv_iconst (v := 0) hx hb dX5_one_38 (by decide) ?_
        refine lv_topi (fun v15 ev16 => ?_)
        have hF := nm_s hF ev16
        refine lv_istore_n (lv' := [(3, .int v15), (2, .int v6), (0, .ref x0), (1, .int x1)]) hx hb dX5_one_39 rfl hl (by decide) rfl (fun ls hl => ?_)
        exact b_X5_one_40 X _ _ _ _ _ _ _ hp (lv_sub hl [2, 1, 0] rfl) hF
      · have hF := if_n c14 hF
        refine lv_iconst (v := 0) hx hb dX5_one_36 (by decide) ?_
        cases hF
        exact m_iret X hp dX5_one_37
  · have hF := if_p c3 hF
    refine lv_iconst (v := -1) hx hb dX5_one_9 (by decide) ?_
    cases hF
    exact m_iret X hp dX5_one_10
end
section
variable {l : Launch} {D : va_G} {n0 : Nat} {P : mP} {S : mSh} {M : mMm} {n : Nat} {p : Program} {e : Env} {s : State} {m : MethodId} {args : Array Value} {below : List Frame} {meth : Method} {c : Code}
abbrev Rm_X5_opensOne : Room := { frames := 1, cells := 0, slots := 0, locals := 22 }
def fb_X5_opensOne_18 (S : mSh) (M : mMm) (x0 : Nat) (x1 : Int32) : Option mMm := ob (rI S M x0 6 12) fun v9 => ob (wF S M x0 6 12 (.int (v9 + (1 : Int32)))) fun M11 => ob (rR S M11 x0 6 18) fun v13 => ob (rI S M11 x0 6 19) fun v15 => ob (wA S M11 v13 100 v15 (.int x1)) fun M17 => ob (rI S M17 x0 6 19) fun v19 => ob (wF S M17 x0 6 19 (.int (v19 + (1 : Int32)))) fun M21 => some M21
theorem b_X5_opensOne_18 {M' : mMm} (X : mCx D n0 P p m c cX5_opensOne 2 s args yX5_opensOne.cls meth none) : ∀ (M : mMm) (x0 : Nat) (x1 : Int32) (H : Heap) (locs : List Loc) (ls : Array Slot), mHp D n0 S M n s H locs → lv_has ls 2 [(0, .ref x0), (1, .int x1)] → fb_X5_opensOne_18 S M x0 x1 = some M' → W p l e Rm_X5_opensOne s m args below meth c H locs 0 0 (MQ below (mQ D n0 none S M' n) args s 0 0 (mA n0)) (F0 m 18 ls []) := by
  have hx := X.1.1
  have hb := X.1.2.1
  have hown := X.1.2.2.2.1
  have hts := X.1.2.2.2.2
  intro M x0 x1 H locs ls hp hl hF
  unfold fb_X5_opensOne_18 at hF
  refine lv_aload_n hx hb dX5_opensOne_18 rfl (lv_at hl 0 rfl) ?_
  refine lv_dup hx hb dX5_opensOne_19 rfl ?_
  obtain ⟨v9, e10, hF⟩ := ob_s hF
  refine m_getI X hp e10 kX5 (Nat.le_of_ble_eq_true rfl) q1471 dX5_opensOne_20 ?_
  refine lv_iconst (v := 1) hx hb dX5_opensOne_23 (by decide) ?_
  refine lv_iadd hx hb dX5_opensOne_24 ?_
  obtain ⟨M11, e12, hF⟩ := ob_s hF
  refine m_putW X hp e12 kX5 (Nat.le_of_ble_eq_true rfl) q1471 rfl rfl rfl dX5_opensOne_25 (fun H locs hp => ?_)
  refine lv_aload_n hx hb dX5_opensOne_28 rfl (lv_at hl 0 rfl) ?_
  obtain ⟨v13, e14, hF⟩ := ob_s hF
  refine m_getR X hp e14 kX5 (Nat.le_of_ble_eq_true rfl) q1477 dX5_opensOne_29 ?_
  refine lv_aload_n hx hb dX5_opensOne_32 rfl (lv_at hl 0 rfl) ?_
  obtain ⟨v15, e16, hF⟩ := ob_s hF
  refine m_getI X hp e16 kX5 (Nat.le_of_ble_eq_true rfl) q1478 dX5_opensOne_33 ?_
  refine lv_iload_n hx hb dX5_opensOne_36 rfl (lv_at hl 1 rfl) ?_
  obtain ⟨M17, e18, hF⟩ := ob_s hF
  refine m_iaW X hp e18 dX5_opensOne_37 (fun H locs hp => ?_)
  refine lv_aload_n hx hb dX5_opensOne_38 rfl (lv_at hl 0 rfl) ?_
  refine lv_dup hx hb dX5_opensOne_39 rfl ?_
  obtain ⟨v19, e20, hF⟩ := ob_s hF
  refine m_getI X hp e20 kX5 (Nat.le_of_ble_eq_true rfl) q1478 dX5_opensOne_40 ?_
  refine lv_iconst (v := 1) hx hb dX5_opensOne_43 (by decide) ?_
  refine lv_iadd hx hb dX5_opensOne_44 ?_
  obtain ⟨M21, e22, hF⟩ := ob_s hF
  refine m_putW X hp e22 kX5 (Nat.le_of_ble_eq_true rfl) q1478 rfl rfl rfl dX5_opensOne_45 (fun H locs hp => ?_)
  cases hF
  exact m_vret X hp dX5_opensOne_48
def f_X5_opensOne (S : mSh) (M : mMm) (x0 : Nat) (x1 : Int32) : Option mMm := ob (rI S M x0 6 12) fun v1 => (if v1 = (8 : Int32) then ob (rI S M x0 6 9) fun v4 => ob (f_X5_wrong S M x0 (3 : Int32) v4) fun M8 => (fb_X5_opensOne_18 S M8 x0 x1) else (fb_X5_opensOne_18 S M x0 x1))
theorem w_X5_opensOne {x0 : Nat} {x1 : Int32} {M' : mMm} (hF : f_X5_opensOne S M x0 x1 = some M') : mCt l D n0 P yX5_opensOne cX5_opensOne 2 none 1 22 0 0 [.ref x0, .int x1] S M n none S M' n := by
  refine m_ofW (by decide) (Nat.le_of_ble_eq_true rfl) (fun p e s m below meth c X hnm hp ls hl => ?_)
  have hx := X.1.1
  have hb := X.1.2.1
  have hown := X.1.2.2.2.1
  have hts := X.1.2.2.2.2
  have hl : lv_has ls 2 [(0, .ref x0), (1, .int x1)] := hl
  unfold f_X5_opensOne at hF
  refine lv_aload_n hx hb dX5_opensOne_0 rfl (lv_at hl 0 rfl) ?_
  obtain ⟨v1, e2, hF⟩ := ob_s hF
  refine m_getI X hp e2 kX5 (Nat.le_of_ble_eq_true rfl) q1471 dX5_opensOne_1 ?_
  refine lv_bipush (v := 8) hx hb dX5_opensOne_4 (by decide) ?_
  refine lv_icmp_ne (tgt := 18) hx hb dX5_opensOne_6 (by decide) (fun c3 => ?_) (fun c3 => ?_)
  · have hF := if_n c3 hF
    exact b_X5_opensOne_18 X _ _ _ _ _ _ hp (lv_sub hl [0, 1] rfl) hF
  · have hF := if_p c3 hF
    refine lv_aload_n hx hb dX5_opensOne_9 rfl (lv_at hl 0 rfl) ?_
    refine lv_iconst (v := 3) hx hb dX5_opensOne_10 (by decide) ?_
    refine lv_aload_n hx hb dX5_opensOne_11 rfl (lv_at hl 0 rfl) ?_
    obtain ⟨v4, e5, hF⟩ := ob_s hF
    refine m_getI X hp e5 kX5 (Nat.le_of_ble_eq_true rfl) q1468 dX5_opensOne_12 ?_
    obtain ⟨M8, e6, hF⟩ := ob_s hF
    refine m_callV (As := [.int (3 : Int32), .int v4]) (rest := []) X hp (w_X5_wrong e6) q1627 q1629 qs69 q144 q1630 2 rfl ds_X5_wrong ⟨Nat.le_of_ble_eq_true rfl, Nat.le_of_ble_eq_true rfl⟩ 6 (T := TX5) (N := 40) rfl (by decide) (rI_s e5).1 hl.1 rfl (Nat.le_of_ble_eq_true rfl) dX5_opensOne_15 ⟨Nat.le_refl 0, Nat.le_refl 0⟩ (fun H locs hp => ?_)
    exact b_X5_opensOne_18 X _ _ _ _ _ _ hp (lv_sub hl [0, 1] rfl) hF
end
section
variable {l : Launch} {D : va_G} {n0 : Nat} {P : mP} {S : mSh} {M : mMm} {n : Nat} {p : Program} {e : Env} {s : State} {m : MethodId} {args : Array Value} {below : List Frame} {meth : Method} {c : Code}
abbrev Rm_X5_over : Room := { frames := 8, cells := 0, slots := 0, locals := 182 }
def fb_X5_over_27 (S : mSh) : Nat → mMm → Nat → Int32 → Int32 → Option (Int32 × mMm)
  | 0, _, _, _, _ => none
  | t + 1, M, x0, x1, x2 => (if (60 : Int32) < x2 then some ((-1 : Int32), M) else gd ((S x0).1 = 6) (ob (f_X5_goesMinute S M x0) fun M17 => ob (f_X5_has S M17 x0 x1 (1 : Int32)) fun v19 => (if v19 = 0 then some (x2, M17) else nm (x2 + (1 : Int32)) fun v21 => (fb_X5_over_27 S t M17 x0 x1 v21))))
theorem b_X5_over_27 {r : Int32} {M' : mMm} (X : mCx D n0 P p m c cX5_over 3 s args yX5_over.cls meth (some .int)) : ∀ t : Nat, ∀ (M : mMm) (x0 : Nat) (x1 : Int32) (x2 : Int32) (H : Heap) (locs : List Loc) (ls : Array Slot), mHp D n0 S M n s H locs → lv_has ls 3 [(0, .ref x0), (1, .int x1), (2, .int x2)] → fb_X5_over_27 S t M x0 x1 x2 = some (r, M') → W p l e Rm_X5_over s m args below meth c H locs 0 0 (MQ below (mQ D n0 (some (.int r)) S M' n) args s 0 0 (mA n0)) (F0 m 27 ls []) := by
  have hx := X.1.1
  have hb := X.1.2.1
  have hown := X.1.2.2.2.1
  have hts := X.1.2.2.2.2
  intro t
  induction t with
  | zero =>
    intro M x0 x1 x2 H locs ls hp hl hF
    have hF : none = some (r, M') := hF
    cases hF
  | succ t ih =>
    intro M x0 x1 x2 H locs ls hp hl hF
    rw [fb_X5_over_27] at hF
    refine lv_iload_n hx hb dX5_over_27 rfl (lv_at hl 2 rfl) ?_
    refine lv_bipush (v := 60) hx hb dX5_over_28 (by decide) ?_
    refine lv_icmp_gt (tgt := 54) hx hb dX5_over_30 (by decide) (fun c13 => ?_) (fun c13 => ?_)
    · have hF := if_p c13 hF
      refine lv_iconst (v := -1) hx hb dX5_over_54 (by decide) ?_
      cases hF
      exact m_iret X hp dX5_over_55
    · have hF := if_n c13 hF
      refine lv_aload_n hx hb dX5_over_33 rfl (lv_at hl 0 rfl) ?_
      obtain ⟨g14, hF⟩ := gd_s hF
      obtain ⟨M17, e15, hF⟩ := ob_s hF
      refine m_callV (As := []) (rest := []) X hp (w_X5_goesMinute e15) q1723 q1725 qs88 q144 q1726 0 rfl ds_X5_goesMinute ⟨Nat.le_of_ble_eq_true rfl, Nat.le_of_ble_eq_true rfl⟩ 6 (T := TX5) (N := 40) rfl (by decide) g14 hl.1 rfl (Nat.le_of_ble_eq_true rfl) dX5_over_34 ⟨Nat.le_refl 0, Nat.le_refl 0⟩ (fun H locs hp => ?_)
      refine lv_aload_n hx hb dX5_over_37 rfl (lv_at hl 0 rfl) ?_
      refine lv_iload_n hx hb dX5_over_38 rfl (lv_at hl 1 rfl) ?_
      refine lv_iconst (v := 1) hx hb dX5_over_39 (by decide) ?_
      obtain ⟨v19, e18, hF⟩ := ob_s hF
      refine m_callV (As := [.int x1, .int (1 : Int32)]) (rest := []) X hp (w_X5_has e18) q1727 q1729 qs89 q144 q1730 2 rfl ds_X5_has ⟨Nat.le_of_ble_eq_true rfl, Nat.le_of_ble_eq_true rfl⟩ 6 (T := TX5) (N := 40) rfl (by decide) g14 hl.1 rfl (Nat.le_of_ble_eq_true rfl) dX5_over_40 ⟨Nat.le_refl 0, Nat.le_refl 0⟩ (fun H locs hp => ?_)
      refine lv_if_ne (tgt := 48) hx hb dX5_over_43 (by decide) (fun c20 => ?_) (fun c20 => ?_)
      · have hF := if_n c20 hF
        obtain ⟨v21, ev22⟩ : ∃ y : Int32, y = x2 + (1 : Int32) := ⟨_, rfl⟩
        have hF := nm_s hF ev22
        refine lv_iinc (v := v21) (lv' := [(2, .int v21), (0, .ref x0), (1, .int x1)]) hx hb dX5_over_48 hl (k := 2) rfl (by rw [ev22]; rfl) (by decide) rfl (fun ls hl => ?_)
        refine lv_goto (tgt := 27) hx hb dX5_over_51 (by decide) ?_
        exact ih _ _ _ _ _ _ _ hp (lv_sub hl [1, 2, 0] rfl) hF
      · have hF := if_p c20 hF
        refine lv_iload_n hx hb dX5_over_46 rfl (lv_at hl 2 rfl) ?_
        cases hF
        exact m_iret X hp dX5_over_47
def f_X5_over (S : mSh) (M : mMm) (x0 : Nat) (x1 : Int32) : Option (Int32 × mMm) := gd ((S x0).1 = 6) (ob (f_X5_isWalker S M x0 x1) fun v3 => (if v3 = 0 then some ((-1 : Int32), M) else ob (f_X5_take S M x0) fun M7 => ob (f_X5_has S M7 x0 x1 (1 : Int32)) fun v9 => (if v9 = 0 then some ((-1 : Int32), M7) else nm ((1 : Int32)) fun v11 => (fb_X5_over_27 S FU M7 x0 x1 v11))))
theorem w_X5_over {x0 : Nat} {x1 : Int32} {r : Int32} {M' : mMm} (hF : f_X5_over S M x0 x1 = some (r, M')) : mCt l D n0 P yX5_over cX5_over 3 (some .int) 8 182 0 0 [.ref x0, .int x1] S M n (some (.int r)) S M' n := by
  refine m_ofW (by decide) (Nat.le_of_ble_eq_true rfl) (fun p e s m below meth c X hnm hp ls hl => ?_)
  have hx := X.1.1
  have hb := X.1.2.1
  have hown := X.1.2.2.2.1
  have hts := X.1.2.2.2.2
  have hl : lv_has ls 3 [(0, .ref x0), (1, .int x1)] := hl
  unfold f_X5_over at hF
  refine lv_aload_n hx hb dX5_over_0 rfl (lv_at hl 0 rfl) ?_
  refine lv_iload_n hx hb dX5_over_1 rfl (lv_at hl 1 rfl) ?_
  obtain ⟨g1, hF⟩ := gd_s hF
  obtain ⟨v3, e2, hF⟩ := ob_s hF
  refine m_callV (As := [.int x1]) (rest := []) X hp (w_X5_isWalker e2) q1847 q1849 qs111 q144 q1850 1 rfl ds_X5_isWalker ⟨Nat.le_of_ble_eq_true rfl, Nat.le_of_ble_eq_true rfl⟩ 6 (T := TX5) (N := 40) rfl (by decide) g1 hl.1 rfl (Nat.le_of_ble_eq_true rfl) dX5_over_2 ⟨Nat.le_refl 0, Nat.le_refl 0⟩ (fun H locs hp => ?_)
  refine lv_if_ne (tgt := 10) hx hb dX5_over_5 (by decide) (fun c4 => ?_) (fun c4 => ?_)
  · have hF := if_n c4 hF
    refine lv_aload_n hx hb dX5_over_10 rfl (lv_at hl 0 rfl) ?_
    obtain ⟨M7, e5, hF⟩ := ob_s hF
    refine m_callV (As := []) (rest := []) X hp (w_X5_take e5) q1871 q1873 qs112 q144 q1874 0 rfl ds_X5_take ⟨Nat.le_of_ble_eq_true rfl, Nat.le_of_ble_eq_true rfl⟩ 6 (T := TX5) (N := 40) rfl (by decide) g1 hl.1 rfl (Nat.le_of_ble_eq_true rfl) dX5_over_11 ⟨Nat.le_refl 0, Nat.le_refl 0⟩ (fun H locs hp => ?_)
    refine lv_aload_n hx hb dX5_over_14 rfl (lv_at hl 0 rfl) ?_
    refine lv_iload_n hx hb dX5_over_15 rfl (lv_at hl 1 rfl) ?_
    refine lv_iconst (v := 1) hx hb dX5_over_16 (by decide) ?_
    obtain ⟨v9, e8, hF⟩ := ob_s hF
    refine m_callV (As := [.int x1, .int (1 : Int32)]) (rest := []) X hp (w_X5_has e8) q1727 q1729 qs89 q144 q1730 2 rfl ds_X5_has ⟨Nat.le_of_ble_eq_true rfl, Nat.le_of_ble_eq_true rfl⟩ 6 (T := TX5) (N := 40) rfl (by decide) g1 hl.1 rfl (Nat.le_of_ble_eq_true rfl) dX5_over_17 ⟨Nat.le_refl 0, Nat.le_refl 0⟩ (fun H locs hp => ?_)
    refine lv_if_ne (tgt := 25) hx hb dX5_over_20 (by decide) (fun c10 => ?_) (fun c10 => ?_)
    · have hF := if_n c10 hF
      refine lv_iconst (v := 1) hx hb dX5_over_25 (by decide) ?_
      refine lv_topi (fun v11 ev12 => ?_)
      have hF := nm_s hF ev12
      refine lv_istore_n (lv' := [(2, .int v11), (0, .ref x0), (1, .int x1)]) hx hb dX5_over_26 rfl hl (by decide) rfl (fun ls hl => ?_)
      exact b_X5_over_27 X _ _ _ _ _ _ _ _ hp (lv_sub hl [1, 2, 0] rfl) hF
    · have hF := if_p c10 hF
      refine lv_iconst (v := -1) hx hb dX5_over_23 (by decide) ?_
      cases hF
      exact m_iret X hp dX5_over_24
  · have hF := if_p c4 hF
    refine lv_iconst (v := -1) hx hb dX5_over_8 (by decide) ?_
    cases hF
    exact m_iret X hp dX5_over_9
end
section
variable {l : Launch} {D : va_G} {n0 : Nat} {P : mP} {S : mSh} {M : mMm} {n : Nat} {p : Program} {e : Env} {s : State} {m : MethodId} {args : Array Value} {below : List Frame} {meth : Method} {c : Code}
abbrev Rm_X5_pigeons : Room := { frames := 4, cells := 0, slots := 0, locals := 91 }
def fb_X5_pigeons_80 (S : mSh) (k53 : mMm → Nat → Int32 → Int32 → Int32 → Int32 → Int32 → Int32 → Int32 → Option (Int32 × mMm)) (M : mMm) (x0 : Nat) (x1 : Int32) (x2 : Int32) (x3 : Int32) (x4 : Int32) (x5 : Int32) (x7 : Int32) (y0 : Int32) (y1 : Int32) : Option (Int32 × mMm) := nm ((y1 + y0)) fun v37 => nm (x7 + (1 : Int32)) fun v39 => (k53 M x0 x1 x2 x3 x4 x5 v37 v39)
theorem b_X5_pigeons_80 {r : Int32} {M' : mMm} (X : mCx D n0 P p m c cX5_pigeons 8 s args yX5_pigeons.cls meth (some .int)) (k53 : mMm → Nat → Int32 → Int32 → Int32 → Int32 → Int32 → Int32 → Int32 → Option (Int32 × mMm)) (hk53 : ∀ (M : mMm) (x0 : Nat) (x1 : Int32) (x2 : Int32) (x3 : Int32) (x4 : Int32) (x5 : Int32) (x6 : Int32) (x7 : Int32) (H : Heap) (locs : List Loc) (ls : Array Slot), mHp D n0 S M n s H locs → lv_has ls 8 [(0, .ref x0), (1, .int x1), (2, .int x2), (3, .int x3), (4, .int x4), (5, .int x5), (6, .int x6), (7, .int x7)] → k53 M x0 x1 x2 x3 x4 x5 x6 x7 = some (r, M') → W p l e Rm_X5_pigeons s m args below meth c H locs 0 0 (MQ below (mQ D n0 (some (.int r)) S M' n) args s 0 0 (mA n0)) (F0 m 53 ls [])) : ∀ (M : mMm) (x0 : Nat) (x1 : Int32) (x2 : Int32) (x3 : Int32) (x4 : Int32) (x5 : Int32) (x7 : Int32) (y0 : Int32) (y1 : Int32) (H : Heap) (locs : List Loc) (ls : Array Slot), mHp D n0 S M n s H locs → lv_has ls 8 [(0, .ref x0), (1, .int x1), (2, .int x2), (3, .int x3), (4, .int x4), (5, .int x5), (7, .int x7)] → fb_X5_pigeons_80 S k53 M x0 x1 x2 x3 x4 x5 x7 y0 y1 = some (r, M') → W p l e Rm_X5_pigeons s m args below meth c H locs 0 0 (MQ below (mQ D n0 (some (.int r)) S M' n) args s 0 0 (mA n0)) (F0 m 80 ls [.int y0, .int y1]) := by
  have hx := X.1.1
  have hb := X.1.2.1
  have hown := X.1.2.2.2.1
  have hts := X.1.2.2.2.2
  intro M x0 x1 x2 x3 x4 x5 x7 y0 y1 H locs ls hp hl hF
  unfold fb_X5_pigeons_80 at hF
  refine lv_iadd hx hb dX5_pigeons_80 ?_
  refine lv_topi (fun v37 ev38 => ?_)
  have hF := nm_s hF ev38
  refine lv_istore (lv' := [(6, .int v37), (0, .ref x0), (1, .int x1), (2, .int x2), (3, .int x3), (4, .int x4), (5, .int x5), (7, .int x7)]) hx hb dX5_pigeons_81 hl (by decide) rfl (fun ls hl => ?_)
  obtain ⟨v39, ev40⟩ : ∃ y : Int32, y = x7 + (1 : Int32) := ⟨_, rfl⟩
  have hF := nm_s hF ev40
  refine lv_iinc (v := v39) (lv' := [(7, .int v39), (6, .int v37), (0, .ref x0), (1, .int x1), (2, .int x2), (3, .int x3), (4, .int x4), (5, .int x5)]) hx hb dX5_pigeons_83 hl (k := 7) rfl (by rw [ev40]; rfl) (by decide) rfl (fun ls hl => ?_)
  refine lv_goto (tgt := 53) hx hb dX5_pigeons_86 (by decide) ?_
  exact hk53 _ _ _ _ _ _ _ _ _ _ _ _ hp (lv_sub hl [2, 3, 4, 5, 6, 7, 1, 0] rfl) hF
def fb_X5_pigeons_135 (S : mSh) (k25 : mMm → Nat → Int32 → Int32 → Int32 → Int32 → Int32 → Option (Int32 × mMm)) (M : mMm) (x0 : Nat) (x1 : Int32) (x2 : Int32) (x3 : Int32) (x4 : Int32) (x5 : Int32) : Option (Int32 × mMm) := nm (x5 + (1 : Int32)) fun v28 => (k25 M x0 x1 x2 x3 x4 v28)
theorem b_X5_pigeons_135 {r : Int32} {M' : mMm} (X : mCx D n0 P p m c cX5_pigeons 8 s args yX5_pigeons.cls meth (some .int)) (k25 : mMm → Nat → Int32 → Int32 → Int32 → Int32 → Int32 → Option (Int32 × mMm)) (hk25 : ∀ (M : mMm) (x0 : Nat) (x1 : Int32) (x2 : Int32) (x3 : Int32) (x4 : Int32) (x5 : Int32) (H : Heap) (locs : List Loc) (ls : Array Slot), mHp D n0 S M n s H locs → lv_has ls 8 [(0, .ref x0), (1, .int x1), (2, .int x2), (3, .int x3), (4, .int x4), (5, .int x5)] → k25 M x0 x1 x2 x3 x4 x5 = some (r, M') → W p l e Rm_X5_pigeons s m args below meth c H locs 0 0 (MQ below (mQ D n0 (some (.int r)) S M' n) args s 0 0 (mA n0)) (F0 m 25 ls [])) : ∀ (M : mMm) (x0 : Nat) (x1 : Int32) (x2 : Int32) (x3 : Int32) (x4 : Int32) (x5 : Int32) (H : Heap) (locs : List Loc) (ls : Array Slot), mHp D n0 S M n s H locs → lv_has ls 8 [(0, .ref x0), (1, .int x1), (2, .int x2), (3, .int x3), (4, .int x4), (5, .int x5)] → fb_X5_pigeons_135 S k25 M x0 x1 x2 x3 x4 x5 = some (r, M') → W p l e Rm_X5_pigeons s m args below meth c H locs 0 0 (MQ below (mQ D n0 (some (.int r)) S M' n) args s 0 0 (mA n0)) (F0 m 135 ls []) := by
  have hx := X.1.1
  have hb := X.1.2.1
  have hown := X.1.2.2.2.1
  have hts := X.1.2.2.2.2
  intro M x0 x1 x2 x3 x4 x5 H locs ls hp hl hF
  unfold fb_X5_pigeons_135 at hF
  obtain ⟨v28, ev29⟩ : ∃ y : Int32, y = x5 + (1 : Int32) := ⟨_, rfl⟩
  have hF := nm_s hF ev29
  refine lv_iinc (v := v28) (lv' := [(5, .int v28), (0, .ref x0), (1, .int x1), (2, .int x2), (3, .int x3), (4, .int x4)]) hx hb dX5_pigeons_135 hl (k := 5) rfl (by rw [ev29]; rfl) (by decide) rfl (fun ls hl => ?_)
  refine lv_goto (tgt := 25) hx hb dX5_pigeons_138 (by decide) ?_
  exact hk25 _ _ _ _ _ _ _ _ _ _ hp (lv_sub hl [1, 2, 3, 4, 5, 0] rfl) hF
def fb_X5_pigeons_132 (S : mSh) (k25 : mMm → Nat → Int32 → Int32 → Int32 → Int32 → Int32 → Option (Int32 × mMm)) (M : mMm) (x0 : Nat) (x1 : Int32) (x2 : Int32) (x3 : Int32) (x5 : Int32) (y0 : Int32) (y1 : Int32) : Option (Int32 × mMm) := nm ((y1 + y0)) fun v48 => (fb_X5_pigeons_135 S k25 M x0 x1 x2 x3 v48 x5)
theorem b_X5_pigeons_132 {r : Int32} {M' : mMm} (X : mCx D n0 P p m c cX5_pigeons 8 s args yX5_pigeons.cls meth (some .int)) (k25 : mMm → Nat → Int32 → Int32 → Int32 → Int32 → Int32 → Option (Int32 × mMm)) (hk25 : ∀ (M : mMm) (x0 : Nat) (x1 : Int32) (x2 : Int32) (x3 : Int32) (x4 : Int32) (x5 : Int32) (H : Heap) (locs : List Loc) (ls : Array Slot), mHp D n0 S M n s H locs → lv_has ls 8 [(0, .ref x0), (1, .int x1), (2, .int x2), (3, .int x3), (4, .int x4), (5, .int x5)] → k25 M x0 x1 x2 x3 x4 x5 = some (r, M') → W p l e Rm_X5_pigeons s m args below meth c H locs 0 0 (MQ below (mQ D n0 (some (.int r)) S M' n) args s 0 0 (mA n0)) (F0 m 25 ls [])) : ∀ (M : mMm) (x0 : Nat) (x1 : Int32) (x2 : Int32) (x3 : Int32) (x5 : Int32) (y0 : Int32) (y1 : Int32) (H : Heap) (locs : List Loc) (ls : Array Slot), mHp D n0 S M n s H locs → lv_has ls 8 [(0, .ref x0), (1, .int x1), (2, .int x2), (3, .int x3), (5, .int x5)] → fb_X5_pigeons_132 S k25 M x0 x1 x2 x3 x5 y0 y1 = some (r, M') → W p l e Rm_X5_pigeons s m args below meth c H locs 0 0 (MQ below (mQ D n0 (some (.int r)) S M' n) args s 0 0 (mA n0)) (F0 m 132 ls [.int y0, .int y1]) := by
  have hx := X.1.1
  have hb := X.1.2.1
  have hown := X.1.2.2.2.1
  have hts := X.1.2.2.2.2
  intro M x0 x1 x2 x3 x5 y0 y1 H locs ls hp hl hF
  unfold fb_X5_pigeons_132 at hF
  refine lv_iadd hx hb dX5_pigeons_132 ?_
  refine lv_topi (fun v48 ev49 => ?_)
  have hF := nm_s hF ev49
  refine lv_istore (lv' := [(4, .int v48), (0, .ref x0), (1, .int x1), (2, .int x2), (3, .int x3), (5, .int x5)]) hx hb dX5_pigeons_133 hl (by decide) rfl (fun ls hl => ?_)
  exact b_X5_pigeons_135 X _ hk25 _ _ _ _ _ _ _ _ _ _ hp (lv_sub hl [1, 2, 3, 4, 0, 5] rfl) hF
def fb_X5_pigeons_114 (S : mSh) (k25 : mMm → Nat → Int32 → Int32 → Int32 → Int32 → Int32 → Option (Int32 × mMm)) (M : mMm) (x0 : Nat) (x1 : Int32) (x2 : Int32) (x4 : Int32) (x5 : Int32) (y0 : Int32) : Option (Int32 × mMm) := gd ((S x0).1 = 6) (ob (f_X5_besideOne S M x0 x5) fun v46 => (if v46 = (1 : Int32) then (fb_X5_pigeons_132 S k25 M x0 x1 x2 y0 x5 (1 : Int32) x4) else (fb_X5_pigeons_132 S k25 M x0 x1 x2 y0 x5 (0 : Int32) x4)))
theorem b_X5_pigeons_114 {r : Int32} {M' : mMm} (X : mCx D n0 P p m c cX5_pigeons 8 s args yX5_pigeons.cls meth (some .int)) (k25 : mMm → Nat → Int32 → Int32 → Int32 → Int32 → Int32 → Option (Int32 × mMm)) (hk25 : ∀ (M : mMm) (x0 : Nat) (x1 : Int32) (x2 : Int32) (x3 : Int32) (x4 : Int32) (x5 : Int32) (H : Heap) (locs : List Loc) (ls : Array Slot), mHp D n0 S M n s H locs → lv_has ls 8 [(0, .ref x0), (1, .int x1), (2, .int x2), (3, .int x3), (4, .int x4), (5, .int x5)] → k25 M x0 x1 x2 x3 x4 x5 = some (r, M') → W p l e Rm_X5_pigeons s m args below meth c H locs 0 0 (MQ below (mQ D n0 (some (.int r)) S M' n) args s 0 0 (mA n0)) (F0 m 25 ls [])) : ∀ (M : mMm) (x0 : Nat) (x1 : Int32) (x2 : Int32) (x4 : Int32) (x5 : Int32) (y0 : Int32) (H : Heap) (locs : List Loc) (ls : Array Slot), mHp D n0 S M n s H locs → lv_has ls 8 [(0, .ref x0), (1, .int x1), (2, .int x2), (4, .int x4), (5, .int x5)] → fb_X5_pigeons_114 S k25 M x0 x1 x2 x4 x5 y0 = some (r, M') → W p l e Rm_X5_pigeons s m args below meth c H locs 0 0 (MQ below (mQ D n0 (some (.int r)) S M' n) args s 0 0 (mA n0)) (F0 m 114 ls [.int y0]) := by
  have hx := X.1.1
  have hb := X.1.2.1
  have hown := X.1.2.2.2.1
  have hts := X.1.2.2.2.2
  intro M x0 x1 x2 x4 x5 y0 H locs ls hp hl hF
  unfold fb_X5_pigeons_114 at hF
  refine lv_istore_n (lv' := [(3, .int y0), (0, .ref x0), (1, .int x1), (2, .int x2), (4, .int x4), (5, .int x5)]) hx hb dX5_pigeons_114 rfl hl (by decide) rfl (fun ls hl => ?_)
  refine lv_iload hx hb dX5_pigeons_115 (lv_at hl 4 rfl) ?_
  refine lv_aload_n hx hb dX5_pigeons_117 rfl (lv_at hl 1 rfl) ?_
  refine lv_iload hx hb dX5_pigeons_118 (lv_at hl 5 rfl) ?_
  obtain ⟨g44, hF⟩ := gd_s hF
  obtain ⟨v46, e45, hF⟩ := ob_s hF
  refine m_callV (As := [.int x5]) (rest := [.int x4]) X hp (w_X5_besideOne e45) q2036 q2038 qs129 q144 q2039 1 rfl ds_X5_besideOne ⟨Nat.le_of_ble_eq_true rfl, Nat.le_of_ble_eq_true rfl⟩ 6 (T := TX5) (N := 40) rfl (by decide) g44 hl.1 rfl (Nat.le_of_ble_eq_true rfl) dX5_pigeons_120 ⟨Nat.le_refl 0, Nat.le_refl 0⟩ (fun H locs hp => ?_)
  refine lv_iconst (v := 1) hx hb dX5_pigeons_123 (by decide) ?_
  refine lv_icmp_ne (tgt := 131) hx hb dX5_pigeons_124 (by decide) (fun c47 => ?_) (fun c47 => ?_)
  · have hF := if_n c47 hF
    refine lv_iconst (v := 0) hx hb dX5_pigeons_131 (by decide) ?_
    exact b_X5_pigeons_132 X _ hk25 _ _ _ _ _ _ _ _ _ _ _ hp (lv_sub hl [1, 2, 3, 0, 5] rfl) hF
  · have hF := if_p c47 hF
    refine lv_iconst (v := 1) hx hb dX5_pigeons_127 (by decide) ?_
    refine lv_goto (tgt := 132) hx hb dX5_pigeons_128 (by decide) ?_
    exact b_X5_pigeons_132 X _ hk25 _ _ _ _ _ _ _ _ _ _ _ hp (lv_sub hl [1, 2, 3, 0, 5] rfl) hF
def fb_X5_pigeons_100 (S : mSh) (k25 : mMm → Nat → Int32 → Int32 → Int32 → Int32 → Int32 → Option (Int32 × mMm)) (M : mMm) (x0 : Nat) (x1 : Int32) (x3 : Int32) (x4 : Int32) (x5 : Int32) (x6 : Int32) (y0 : Int32) (y1 : Int32) : Option (Int32 × mMm) := nm ((y1 + y0)) fun v41 => (if x6 ≤ x3 then (fb_X5_pigeons_114 S k25 M x0 x1 v41 x4 x5 x3) else (fb_X5_pigeons_114 S k25 M x0 x1 v41 x4 x5 x6))
theorem b_X5_pigeons_100 {r : Int32} {M' : mMm} (X : mCx D n0 P p m c cX5_pigeons 8 s args yX5_pigeons.cls meth (some .int)) (k25 : mMm → Nat → Int32 → Int32 → Int32 → Int32 → Int32 → Option (Int32 × mMm)) (hk25 : ∀ (M : mMm) (x0 : Nat) (x1 : Int32) (x2 : Int32) (x3 : Int32) (x4 : Int32) (x5 : Int32) (H : Heap) (locs : List Loc) (ls : Array Slot), mHp D n0 S M n s H locs → lv_has ls 8 [(0, .ref x0), (1, .int x1), (2, .int x2), (3, .int x3), (4, .int x4), (5, .int x5)] → k25 M x0 x1 x2 x3 x4 x5 = some (r, M') → W p l e Rm_X5_pigeons s m args below meth c H locs 0 0 (MQ below (mQ D n0 (some (.int r)) S M' n) args s 0 0 (mA n0)) (F0 m 25 ls [])) : ∀ (M : mMm) (x0 : Nat) (x1 : Int32) (x3 : Int32) (x4 : Int32) (x5 : Int32) (x6 : Int32) (y0 : Int32) (y1 : Int32) (H : Heap) (locs : List Loc) (ls : Array Slot), mHp D n0 S M n s H locs → lv_has ls 8 [(0, .ref x0), (1, .int x1), (3, .int x3), (4, .int x4), (5, .int x5), (6, .int x6)] → fb_X5_pigeons_100 S k25 M x0 x1 x3 x4 x5 x6 y0 y1 = some (r, M') → W p l e Rm_X5_pigeons s m args below meth c H locs 0 0 (MQ below (mQ D n0 (some (.int r)) S M' n) args s 0 0 (mA n0)) (F0 m 100 ls [.int y0, .int y1]) := by
  have hx := X.1.1
  have hb := X.1.2.1
  have hown := X.1.2.2.2.1
  have hts := X.1.2.2.2.2
  intro M x0 x1 x3 x4 x5 x6 y0 y1 H locs ls hp hl hF
  unfold fb_X5_pigeons_100 at hF
  refine lv_iadd hx hb dX5_pigeons_100 ?_
  refine lv_topi (fun v41 ev42 => ?_)
  have hF := nm_s hF ev42
  refine lv_istore_n (lv' := [(2, .int v41), (0, .ref x0), (1, .int x1), (3, .int x3), (4, .int x4), (5, .int x5), (6, .int x6)]) hx hb dX5_pigeons_101 rfl hl (by decide) rfl (fun ls hl => ?_)
  refine lv_iload hx hb dX5_pigeons_102 (lv_at hl 6 rfl) ?_
  refine lv_iload_n hx hb dX5_pigeons_104 rfl (lv_at hl 3 rfl) ?_
  refine lv_icmp_le (tgt := 113) hx hb dX5_pigeons_105 (by decide) (fun c43 => ?_) (fun c43 => ?_)
  · have hF := if_p c43 hF
    refine lv_iload_n hx hb dX5_pigeons_113 rfl (lv_at hl 3 rfl) ?_
    exact b_X5_pigeons_114 X _ hk25 _ _ _ _ _ _ _ _ _ _ hp (lv_sub hl [1, 2, 0, 4, 5] rfl) hF
  · have hF := if_n c43 hF
    refine lv_iload hx hb dX5_pigeons_108 (lv_at hl 6 rfl) ?_
    refine lv_goto (tgt := 114) hx hb dX5_pigeons_110 (by decide) ?_
    exact b_X5_pigeons_114 X _ hk25 _ _ _ _ _ _ _ _ _ _ hp (lv_sub hl [1, 2, 0, 4, 5] rfl) hF
def fb_X5_pigeons_53 (S : mSh) (k25 : mMm → Nat → Int32 → Int32 → Int32 → Int32 → Int32 → Option (Int32 × mMm)) : Nat → mMm → Nat → Int32 → Int32 → Int32 → Int32 → Int32 → Int32 → Int32 → Option (Int32 × mMm)
  | 0, _, _, _, _, _, _, _, _, _ => none
  | t + 1, M, x0, x1, x2, x3, x4, x5, x6, x7 => (if (144 : Int32) ≤ x7 then (if x6 ≤ 0 then (fb_X5_pigeons_100 S k25 M x0 x1 x3 x4 x5 x6 (0 : Int32) x2) else (fb_X5_pigeons_100 S k25 M x0 x1 x3 x4 x5 x6 (1 : Int32) x2)) else ob (rR S M x0 6 38) fun v32 => ob (aI S M v32 100 x7) fun v34 => (if v34 = x5 then (fb_X5_pigeons_80 S (fb_X5_pigeons_53 S k25 t) M x0 x1 x2 x3 x4 x5 x7 (1 : Int32) x6) else (fb_X5_pigeons_80 S (fb_X5_pigeons_53 S k25 t) M x0 x1 x2 x3 x4 x5 x7 (0 : Int32) x6)))
theorem b_X5_pigeons_53 {r : Int32} {M' : mMm} (X : mCx D n0 P p m c cX5_pigeons 8 s args yX5_pigeons.cls meth (some .int)) (k25 : mMm → Nat → Int32 → Int32 → Int32 → Int32 → Int32 → Option (Int32 × mMm)) (hk25 : ∀ (M : mMm) (x0 : Nat) (x1 : Int32) (x2 : Int32) (x3 : Int32) (x4 : Int32) (x5 : Int32) (H : Heap) (locs : List Loc) (ls : Array Slot), mHp D n0 S M n s H locs → lv_has ls 8 [(0, .ref x0), (1, .int x1), (2, .int x2), (3, .int x3), (4, .int x4), (5, .int x5)] → k25 M x0 x1 x2 x3 x4 x5 = some (r, M') → W p l e Rm_X5_pigeons s m args below meth c H locs 0 0 (MQ below (mQ D n0 (some (.int r)) S M' n) args s 0 0 (mA n0)) (F0 m 25 ls [])) : ∀ t : Nat, ∀ (M : mMm) (x0 : Nat) (x1 : Int32) (x2 : Int32) (x3 : Int32) (x4 : Int32) (x5 : Int32) (x6 : Int32) (x7 : Int32) (H : Heap) (locs : List Loc) (ls : Array Slot), mHp D n0 S M n s H locs → lv_has ls 8 [(0, .ref x0), (1, .int x1), (2, .int x2), (3, .int x3), (4, .int x4), (5, .int x5), (6, .int x6), (7, .int x7)] → fb_X5_pigeons_53 S k25 t M x0 x1 x2 x3 x4 x5 x6 x7 = some (r, M') → W p l e Rm_X5_pigeons s m args below meth c H locs 0 0 (MQ below (mQ D n0 (some (.int r)) S M' n) args s 0 0 (mA n0)) (F0 m 53 ls []) := by
  have hx := X.1.1
  have hb := X.1.2.1
  have hown := X.1.2.2.2.1
  have hts := X.1.2.2.2.2
  intro t
  induction t with
  | zero =>
    intro M x0 x1 x2 x3 x4 x5 x6 x7 H locs ls hp hl hF
    have hF : none = some (r, M') := hF
    cases hF
  | succ t ih =>
    intro M x0 x1 x2 x3 x4 x5 x6 x7 H locs ls hp hl hF
    rw [fb_X5_pigeons_53] at hF
    refine lv_iload hx hb dX5_pigeons_53 (lv_at hl 7 rfl) ?_
    refine lv_sipush (v := 144) hx hb dX5_pigeons_55 (by decide) ?_
    refine lv_icmp_ge (tgt := 89) hx hb dX5_pigeons_58 (by decide) (fun c30 => ?_) (fun c30 => ?_)
    · have hF := if_p c30 hF
      refine lv_iload_n hx hb dX5_pigeons_89 rfl (lv_at hl 2 rfl) ?_
      refine lv_iload hx hb dX5_pigeons_90 (lv_at hl 6 rfl) ?_
      refine lv_if_le (tgt := 99) hx hb dX5_pigeons_92 (by decide) (fun c31 => ?_) (fun c31 => ?_)
      · have hF := if_p c31 hF
        refine lv_iconst (v := 0) hx hb dX5_pigeons_99 (by decide) ?_
        exact b_X5_pigeons_100 X _ hk25 _ _ _ _ _ _ _ _ _ _ _ _ hp (lv_sub hl [0, 1, 3, 4, 5, 6] rfl) hF
      · have hF := if_n c31 hF
        refine lv_iconst (v := 1) hx hb dX5_pigeons_95 (by decide) ?_
        refine lv_goto (tgt := 100) hx hb dX5_pigeons_96 (by decide) ?_
        exact b_X5_pigeons_100 X _ hk25 _ _ _ _ _ _ _ _ _ _ _ _ hp (lv_sub hl [0, 1, 3, 4, 5, 6] rfl) hF
    · have hF := if_n c30 hF
      refine lv_iload hx hb dX5_pigeons_61 (lv_at hl 6 rfl) ?_
      refine lv_aload_n hx hb dX5_pigeons_63 rfl (lv_at hl 0 rfl) ?_
      obtain ⟨v32, e33, hF⟩ := ob_s hF
      refine m_getR X hp e33 kX5 (Nat.le_of_ble_eq_true rfl) q1497 dX5_pigeons_64 ?_
      refine lv_iload hx hb dX5_pigeons_67 (lv_at hl 7 rfl) ?_
      obtain ⟨v34, e35, hF⟩ := ob_s hF
      refine m_iaI X hp e35 dX5_pigeons_69 ?_
      refine lv_iload hx hb dX5_pigeons_70 (lv_at hl 5 rfl) ?_
      refine lv_icmp_ne (tgt := 79) hx hb dX5_pigeons_72 (by decide) (fun c36 => ?_) (fun c36 => ?_)
      · have hF := if_n c36 hF
        refine lv_iconst (v := 0) hx hb dX5_pigeons_79 (by decide) ?_
        exact b_X5_pigeons_80 X _ ih _ _ _ _ _ _ _ _ _ _ _ _ _ hp (lv_sub hl [0, 1, 2, 3, 4, 5, 7] rfl) hF
      · have hF := if_p c36 hF
        refine lv_iconst (v := 1) hx hb dX5_pigeons_75 (by decide) ?_
        refine lv_goto (tgt := 80) hx hb dX5_pigeons_76 (by decide) ?_
        exact b_X5_pigeons_80 X _ ih _ _ _ _ _ _ _ _ _ _ _ _ _ hp (lv_sub hl [0, 1, 2, 3, 4, 5, 7] rfl) hF
def fb_X5_pigeons_25 (S : mSh) : Nat → mMm → Nat → Int32 → Int32 → Int32 → Int32 → Int32 → Option (Int32 × mMm)
  | 0, _, _, _, _, _, _, _ => none
  | t + 1, M, x0, x1, x2, x3, x4, x5 => (if (144 : Int32) ≤ x5 then (if x1 = 0 then some (x2, M) else (if x1 = (1 : Int32) then some (x3, M) else some (x4, M))) else ob (rR S M x0 6 38) fun v19 => ob (aI S M v19 100 x5) fun v21 => (if v21 = (-1 : Int32) then (fb_X5_pigeons_135 S (fb_X5_pigeons_25 S t) M x0 x1 x2 x3 x4 x5) else nm ((0 : Int32)) fun v24 => nm ((0 : Int32)) fun v26 => (fb_X5_pigeons_53 S (fb_X5_pigeons_25 S t) FU M x0 x1 x2 x3 x4 x5 v24 v26)))
theorem b_X5_pigeons_25 {r : Int32} {M' : mMm} (X : mCx D n0 P p m c cX5_pigeons 8 s args yX5_pigeons.cls meth (some .int)) : ∀ t : Nat, ∀ (M : mMm) (x0 : Nat) (x1 : Int32) (x2 : Int32) (x3 : Int32) (x4 : Int32) (x5 : Int32) (H : Heap) (locs : List Loc) (ls : Array Slot), mHp D n0 S M n s H locs → lv_has ls 8 [(0, .ref x0), (1, .int x1), (2, .int x2), (3, .int x3), (4, .int x4), (5, .int x5)] → fb_X5_pigeons_25 S t M x0 x1 x2 x3 x4 x5 = some (r, M') → W p l e Rm_X5_pigeons s m args below meth c H locs 0 0 (MQ below (mQ D n0 (some (.int r)) S M' n) args s 0 0 (mA n0)) (F0 m 25 ls []) := by
  have hx := X.1.1
  have hb := X.1.2.1
  have hown := X.1.2.2.2.1
  have hts := X.1.2.2.2.2
  intro t
  induction t with
  | zero =>
    intro M x0 x1 x2 x3 x4 x5 H locs ls hp hl hF
    have hF : none = some (r, M') := hF
    cases hF
  | succ t ih =>
    intro M x0 x1 x2 x3 x4 x5 H locs ls hp hl hF
    rw [fb_X5_pigeons_25] at hF
    refine lv_iload hx hb dX5_pigeons_25 (lv_at hl 5 rfl) ?_
    refine lv_sipush (v := 144) hx hb dX5_pigeons_27 (by decide) ?_
    refine lv_icmp_ge (tgt := 141) hx hb dX5_pigeons_30 (by decide) (fun c16 => ?_) (fun c16 => ?_)
    · have hF := if_p c16 hF
      refine lv_iload_n hx hb dX5_pigeons_141 rfl (lv_at hl 1 rfl) ?_
      refine lv_if_ne (tgt := 149) hx hb dX5_pigeons_142 (by decide) (fun c17 => ?_) (fun c17 => ?_)
      · have hF := if_n c17 hF
        refine lv_iload_n hx hb dX5_pigeons_149 rfl (lv_at hl 1 rfl) ?_
        refine lv_iconst (v := 1) hx hb dX5_pigeons_150 (by decide) ?_
        refine lv_icmp_ne (tgt := 158) hx hb dX5_pigeons_151 (by decide) (fun c18 => ?_) (fun c18 => ?_)
        · have hF := if_n c18 hF
          refine lv_iload hx hb dX5_pigeons_158 (lv_at hl 4 rfl) ?_
          cases hF
          exact m_iret X hp dX5_pigeons_160
        · have hF := if_p c18 hF
          refine lv_iload_n hx hb dX5_pigeons_154 rfl (lv_at hl 3 rfl) ?_
          refine lv_goto (tgt := 160) hx hb dX5_pigeons_155 (by decide) ?_
          cases hF
          exact m_iret X hp dX5_pigeons_160
      · have hF := if_p c17 hF
        refine lv_iload_n hx hb dX5_pigeons_145 rfl (lv_at hl 2 rfl) ?_
        refine lv_goto (tgt := 160) hx hb dX5_pigeons_146 (by decide) ?_
        cases hF
        exact m_iret X hp dX5_pigeons_160
    · have hF := if_n c16 hF
      refine lv_aload_n hx hb dX5_pigeons_33 rfl (lv_at hl 0 rfl) ?_
      obtain ⟨v19, e20, hF⟩ := ob_s hF
      refine m_getR X hp e20 kX5 (Nat.le_of_ble_eq_true rfl) q1497 dX5_pigeons_34 ?_
      refine lv_iload hx hb dX5_pigeons_37 (lv_at hl 5 rfl) ?_
      obtain ⟨v21, e22, hF⟩ := ob_s hF
      refine m_iaI X hp e22 dX5_pigeons_39 ?_
      refine lv_iconst (v := -1) hx hb dX5_pigeons_40 (by decide) ?_
      refine lv_icmp_ne (tgt := 47) hx hb dX5_pigeons_41 (by decide) (fun c23 => ?_) (fun c23 => ?_)
      · have hF := if_n c23 hF
        refine lv_iconst (v := 0) hx hb dX5_pigeons_47 (by decide) ?_
        refine lv_topi (fun v24 ev25 => ?_)
        have hF := nm_s hF ev25
        refine lv_istore (lv' := [(6, .int v24), (0, .ref x0), (1, .int x1), (2, .int x2), (3, .int x3), (4, .int x4), (5, .int x5)]) hx hb dX5_pigeons_48 hl (by decide) rfl (fun ls hl => ?_)
        refine lv_iconst (v := 0) hx hb dX5_pigeons_50 (by decide) ?_
        refine lv_topi (fun v26 ev27 => ?_)
        have hF := nm_s hF ev27
        refine lv_istore (lv' := [(7, .int v26), (6, .int v24), (0, .ref x0), (1, .int x1), (2, .int x2), (3, .int x3), (4, .int x4), (5, .int x5)]) hx hb dX5_pigeons_51 hl (by decide) rfl (fun ls hl => ?_)
        exact b_X5_pigeons_53 X _ ih _ _ _ _ _ _ _ _ _ _ _ _ _ hp (lv_sub hl [2, 3, 4, 5, 6, 7, 1, 0] rfl) hF
      · have hF := if_p c23 hF
        refine lv_goto (tgt := 135) hx hb dX5_pigeons_44 (by decide) ?_
        exact b_X5_pigeons_135 X _ ih _ _ _ _ _ _ _ _ _ _ hp (lv_sub hl [0, 1, 2, 3, 4, 5] rfl) hF
def f_X5_pigeons (S : mSh) (M : mMm) (x0 : Nat) (x1 : Int32) : Option (Int32 × mMm) := ob (f_X5_within x1 (0 : Int32) (2 : Int32)) fun v2 => (if v2 = 0 then some ((-1 : Int32), M) else gd ((S x0).1 = 6) (ob (f_X5_layFlocks S M x0) fun M7 => nm ((0 : Int32)) fun v8 => nm ((0 : Int32)) fun v10 => nm ((0 : Int32)) fun v12 => nm ((0 : Int32)) fun v14 => (fb_X5_pigeons_25 S FU M7 x0 x1 v8 v10 v12 v14)))
theorem w_X5_pigeons {x0 : Nat} {x1 : Int32} {r : Int32} {M' : mMm} (hF : f_X5_pigeons S M x0 x1 = some (r, M')) : mCt l D n0 P yX5_pigeons cX5_pigeons 8 (some .int) 4 91 0 0 [.ref x0, .int x1] S M n (some (.int r)) S M' n := by
  refine m_ofW (by decide) (Nat.le_of_ble_eq_true rfl) (fun p e s m below meth c X hnm hp ls hl => ?_)
  have hx := X.1.1
  have hb := X.1.2.1
  have hown := X.1.2.2.2.1
  have hts := X.1.2.2.2.2
  have hl : lv_has ls 8 [(0, .ref x0), (1, .int x1)] := hl
  unfold f_X5_pigeons at hF
  refine lv_iload_n hx hb dX5_pigeons_0 rfl (lv_at hl 1 rfl) ?_
  refine lv_iconst (v := 0) hx hb dX5_pigeons_1 (by decide) ?_
  refine lv_iconst (v := 2) hx hb dX5_pigeons_2 (by decide) ?_
  obtain ⟨v2, e1, hF⟩ := ob_s hF
  refine m_callS (As := [.int x1, .int (0 : Int32), .int (2 : Int32)]) (rest := []) X hp (w_X5_within e1) q1588 q1589 q144 q1590 3 rfl ds_X5_within ⟨Nat.le_of_ble_eq_true rfl, Nat.le_of_ble_eq_true rfl⟩ hl.1 rfl (Nat.le_of_ble_eq_true rfl) dX5_pigeons_3 ⟨Nat.le_refl 0, Nat.le_refl 0⟩ (fun H locs hp => ?_)
  refine lv_if_ne (tgt := 11) hx hb dX5_pigeons_6 (by decide) (fun c3 => ?_) (fun c3 => ?_)
  · have hF := if_n c3 hF
    refine lv_aload_n hx hb dX5_pigeons_11 rfl (lv_at hl 0 rfl) ?_
    obtain ⟨g4, hF⟩ := gd_s hF
    obtain ⟨M7, e5, hF⟩ := ob_s hF
    refine m_callV (As := []) (rest := []) X hp (w_X5_layFlocks e5) q2032 q2034 qs128 q144 q2035 0 rfl ds_X5_layFlocks ⟨Nat.le_of_ble_eq_true rfl, Nat.le_of_ble_eq_true rfl⟩ 6 (T := TX5) (N := 40) rfl (by decide) g4 hl.1 rfl (Nat.le_of_ble_eq_true rfl) dX5_pigeons_12 ⟨Nat.le_refl 0, Nat.le_refl 0⟩ (fun H locs hp => ?_)
    refine lv_iconst (v := 0) hx hb dX5_pigeons_15 (by decide) ?_
    refine lv_topi (fun v8 ev9 => ?_)
    have hF := nm_s hF ev9
    refine lv_istore_n (lv' := [(2, .int v8), (0, .ref x0), (1, .int x1)]) hx hb dX5_pigeons_16 rfl hl (by decide) rfl (fun ls hl => ?_)
    refine lv_iconst (v := 0) hx hb dX5_pigeons_17 (by decide) ?_
    refine lv_topi (fun v10 ev11 => ?_)
    have hF := nm_s hF ev11
    refine lv_istore_n (lv' := [(3, .int v10), (2, .int v8), (0, .ref x0), (1, .int x1)]) hx hb dX5_pigeons_18 rfl hl (by decide) rfl (fun ls hl => ?_)
    refine lv_iconst (v := 0) hx hb dX5_pigeons_19 (by decide) ?_
    refine lv_topi (fun v12 ev13 => ?_)
    have hF := nm_s hF ev13
    refine lv_istore (lv' := [(4, .int v12), (3, .int v10), (2, .int v8), (0, .ref x0), (1, .int x1)]) hx hb dX5_pigeons_20 hl (by decide) rfl (fun ls hl => ?_)
    refine lv_iconst (v := 0) hx hb dX5_pigeons_22 (by decide) ?_
    refine lv_topi (fun v14 ev15 => ?_)
    have hF := nm_s hF ev15
    refine lv_istore (lv' := [(5, .int v14), (4, .int v12), (3, .int v10), (2, .int v8), (0, .ref x0), (1, .int x1)]) hx hb dX5_pigeons_23 hl (by decide) rfl (fun ls hl => ?_)
    exact b_X5_pigeons_25 X _ _ _ _ _ _ _ _ _ _ _ hp (lv_sub hl [4, 5, 3, 2, 1, 0] rfl) hF
  · have hF := if_p c3 hF
    refine lv_iconst (v := -1) hx hb dX5_pigeons_9 (by decide) ?_
    cases hF
    exact m_iret X hp dX5_pigeons_10
end
section
variable {l : Launch} {D : va_G} {n0 : Nat} {P : mP} {S : mSh} {M : mMm} {n : Nat} {p : Program} {e : Env} {s : State} {m : MethodId} {args : Array Value} {below : List Frame} {meth : Method} {c : Code}
abbrev Rm_X5_sign : Room := { frames := 1, cells := 0, slots := 0, locals := 22 }
def fb_X5_sign_24 (S : mSh) (M : mMm) (x0 : Nat) : Option mMm := gd ((S x0).1 = 6) (ob (f_X5_fine S M x0) fun v16 => (if v16 = 0 then some M else ob (rI S M x0 6 9) fun v18 => ob (wF S M x0 6 9 (.int (v18 + (1 : Int32)))) fun M20 => some M20))
theorem b_X5_sign_24 {M' : mMm} (X : mCx D n0 P p m c cX5_sign 2 s args yX5_sign.cls meth none) : ∀ (M : mMm) (x0 : Nat) (H : Heap) (locs : List Loc) (ls : Array Slot), mHp D n0 S M n s H locs → lv_has ls 2 [(0, .ref x0)] → fb_X5_sign_24 S M x0 = some M' → W p l e Rm_X5_sign s m args below meth c H locs 0 0 (MQ below (mQ D n0 none S M' n) args s 0 0 (mA n0)) (F0 m 24 ls []) := by
  have hx := X.1.1
  have hb := X.1.2.1
  have hown := X.1.2.2.2.1
  have hts := X.1.2.2.2.2
  intro M x0 H locs ls hp hl hF
  unfold fb_X5_sign_24 at hF
  refine lv_aload_n hx hb dX5_sign_24 rfl (lv_at hl 0 rfl) ?_
  obtain ⟨g14, hF⟩ := gd_s hF
  obtain ⟨v16, e15, hF⟩ := ob_s hF
  refine m_callV (As := []) (rest := []) X hp (w_X5_fine e15) q1598 q1600 qs64 q144 q1601 0 rfl ds_X5_fine ⟨Nat.le_of_ble_eq_true rfl, Nat.le_of_ble_eq_true rfl⟩ 6 (T := TX5) (N := 40) rfl (by decide) g14 hl.1 rfl (Nat.le_of_ble_eq_true rfl) dX5_sign_25 ⟨Nat.le_refl 0, Nat.le_refl 0⟩ (fun H locs hp => ?_)
  refine lv_if_eq (tgt := 41) hx hb dX5_sign_28 (by decide) (fun c17 => ?_) (fun c17 => ?_)
  · have hF := if_p c17 hF
    cases hF
    exact m_vret X hp dX5_sign_41
  · have hF := if_n c17 hF
    refine lv_aload_n hx hb dX5_sign_31 rfl (lv_at hl 0 rfl) ?_
    refine lv_dup hx hb dX5_sign_32 rfl ?_
    obtain ⟨v18, e19, hF⟩ := ob_s hF
    refine m_getI X hp e19 kX5 (Nat.le_of_ble_eq_true rfl) q1468 dX5_sign_33 ?_
    refine lv_iconst (v := 1) hx hb dX5_sign_36 (by decide) ?_
    refine lv_iadd hx hb dX5_sign_37 ?_
    obtain ⟨M20, e21, hF⟩ := ob_s hF
    refine m_putW X hp e21 kX5 (Nat.le_of_ble_eq_true rfl) q1468 rfl rfl rfl dX5_sign_38 (fun H locs hp => ?_)
    cases hF
    exact m_vret X hp dX5_sign_41
def f_X5_sign (S : mSh) (M : mMm) (x0 : Nat) (x1 : Int32) : Option mMm := gd ((S x0).1 = 6) (ob (f_X5_fine S M x0) fun v3 => (if v3 = 0 then (fb_X5_sign_24 S M x0) else ob (f_X5_here S M x0) fun ⟨v6, M7⟩ => (if v6 = x1 then (fb_X5_sign_24 S M7 x0) else ob (rI S M7 x0 6 9) fun v9 => ob (f_X5_wrong S M7 x0 (1 : Int32) v9) fun M13 => (fb_X5_sign_24 S M13 x0))))
theorem w_X5_sign {x0 : Nat} {x1 : Int32} {M' : mMm} (hF : f_X5_sign S M x0 x1 = some M') : mCt l D n0 P yX5_sign cX5_sign 2 none 1 22 0 0 [.ref x0, .int x1] S M n none S M' n := by
  refine m_ofW (by decide) (Nat.le_of_ble_eq_true rfl) (fun p e s m below meth c X hnm hp ls hl => ?_)
  have hx := X.1.1
  have hb := X.1.2.1
  have hown := X.1.2.2.2.1
  have hts := X.1.2.2.2.2
  have hl : lv_has ls 2 [(0, .ref x0), (1, .int x1)] := hl
  unfold f_X5_sign at hF
  refine lv_aload_n hx hb dX5_sign_0 rfl (lv_at hl 0 rfl) ?_
  obtain ⟨g1, hF⟩ := gd_s hF
  obtain ⟨v3, e2, hF⟩ := ob_s hF
  refine m_callV (As := []) (rest := []) X hp (w_X5_fine e2) q1598 q1600 qs64 q144 q1601 0 rfl ds_X5_fine ⟨Nat.le_of_ble_eq_true rfl, Nat.le_of_ble_eq_true rfl⟩ 6 (T := TX5) (N := 40) rfl (by decide) g1 hl.1 rfl (Nat.le_of_ble_eq_true rfl) dX5_sign_1 ⟨Nat.le_refl 0, Nat.le_refl 0⟩ (fun H locs hp => ?_)
  refine lv_if_eq (tgt := 24) hx hb dX5_sign_4 (by decide) (fun c4 => ?_) (fun c4 => ?_)
  · have hF := if_p c4 hF
    exact b_X5_sign_24 X _ _ _ _ _ hp (lv_sub hl [0] rfl) hF
  · have hF := if_n c4 hF
    refine lv_aload_n hx hb dX5_sign_7 rfl (lv_at hl 0 rfl) ?_
    obtain ⟨⟨v6, M7⟩, e5, hF⟩ := ob_s hF
    refine m_callV (As := []) (rest := []) X hp (w_X5_here e5) q1602 q1604 qs65 q144 q1605 0 rfl ds_X5_here ⟨Nat.le_of_ble_eq_true rfl, Nat.le_of_ble_eq_true rfl⟩ 6 (T := TX5) (N := 40) rfl (by decide) g1 hl.1 rfl (Nat.le_of_ble_eq_true rfl) dX5_sign_8 ⟨Nat.le_refl 0, Nat.le_refl 0⟩ (fun H locs hp => ?_)
    refine lv_iload_n hx hb dX5_sign_11 rfl (lv_at hl 1 rfl) ?_
    refine lv_icmp_eq (tgt := 24) hx hb dX5_sign_12 (by decide) (fun c8 => ?_) (fun c8 => ?_)
    · have hF := if_p c8 hF
      exact b_X5_sign_24 X _ _ _ _ _ hp (lv_sub hl [0] rfl) hF
    · have hF := if_n c8 hF
      refine lv_aload_n hx hb dX5_sign_15 rfl (lv_at hl 0 rfl) ?_
      refine lv_iconst (v := 1) hx hb dX5_sign_16 (by decide) ?_
      refine lv_aload_n hx hb dX5_sign_17 rfl (lv_at hl 0 rfl) ?_
      obtain ⟨v9, e10, hF⟩ := ob_s hF
      refine m_getI X hp e10 kX5 (Nat.le_of_ble_eq_true rfl) q1468 dX5_sign_18 ?_
      obtain ⟨M13, e11, hF⟩ := ob_s hF
      refine m_callV (As := [.int (1 : Int32), .int v9]) (rest := []) X hp (w_X5_wrong e11) q1627 q1629 qs69 q144 q1630 2 rfl ds_X5_wrong ⟨Nat.le_of_ble_eq_true rfl, Nat.le_of_ble_eq_true rfl⟩ 6 (T := TX5) (N := 40) rfl (by decide) (rI_s e10).1 hl.1 rfl (Nat.le_of_ble_eq_true rfl) dX5_sign_21 ⟨Nat.le_refl 0, Nat.le_refl 0⟩ (fun H locs hp => ?_)
      exact b_X5_sign_24 X _ _ _ _ _ hp (lv_sub hl [0] rfl) hF
end
section
variable {l : Launch} {D : va_G} {n0 : Nat} {P : mP} {S : mSh} {M : mMm} {n : Nat} {p : Program} {e : Env} {s : State} {m : MethodId} {args : Array Value} {below : List Frame} {meth : Method} {c : Code}
abbrev Rm_X5_readOpening : Room := { frames := 2, cells := 0, slots := 0, locals := 47 }
def fb_X5_readOpening_50 (S : mSh) (k2 : mMm → Nat → Int32 → Option mMm) (M : mMm) (x0 : Nat) : Option mMm := nm ((1 : Int32)) fun v37 => (k2 M x0 v37)
theorem b_X5_readOpening_50 {M' : mMm} (X : mCx D n0 P p m c cX5_readOpening 2 s args yX5_readOpening.cls meth none) (k2 : mMm → Nat → Int32 → Option mMm) (hk2 : ∀ (M : mMm) (x0 : Nat) (x1 : Int32) (H : Heap) (locs : List Loc) (ls : Array Slot), mHp D n0 S M n s H locs → lv_has ls 2 [(0, .ref x0), (1, .int x1)] → k2 M x0 x1 = some M' → W p l e Rm_X5_readOpening s m args below meth c H locs 0 0 (MQ below (mQ D n0 none S M' n) args s 0 0 (mA n0)) (F0 m 2 ls [])) : ∀ (M : mMm) (x0 : Nat) (H : Heap) (locs : List Loc) (ls : Array Slot), mHp D n0 S M n s H locs → lv_has ls 2 [(0, .ref x0)] → fb_X5_readOpening_50 S k2 M x0 = some M' → W p l e Rm_X5_readOpening s m args below meth c H locs 0 0 (MQ below (mQ D n0 none S M' n) args s 0 0 (mA n0)) (F0 m 50 ls []) := by
  have hx := X.1.1
  have hb := X.1.2.1
  have hown := X.1.2.2.2.1
  have hts := X.1.2.2.2.2
  intro M x0 H locs ls hp hl hF
  unfold fb_X5_readOpening_50 at hF
  refine lv_iconst (v := 1) hx hb dX5_readOpening_50 (by decide) ?_
  refine lv_topi (fun v37 ev38 => ?_)
  have hF := nm_s hF ev38
  refine lv_istore_n (lv' := [(1, .int v37), (0, .ref x0)]) hx hb dX5_readOpening_51 rfl hl (by decide) rfl (fun ls hl => ?_)
  refine lv_goto (tgt := 2) hx hb dX5_readOpening_52 (by decide) ?_
  exact hk2 _ _ _ _ _ _ hp (lv_sub hl [1, 0] rfl) hF
def fb_X5_readOpening_2 (S : mSh) : Nat → mMm → Nat → Int32 → Option mMm
  | 0, _, _, _ => none
  | t + 1, M, x0, x1 => (if x1 = 0 then some M else gd ((S x0).1 = 6) (ob (f_X5_fine S M x0) fun v6 => (if v6 = 0 then some M else nm ((0 : Int32)) fun v8 => ob (f_X5_word S M x0) fun ⟨v11, M12⟩ => ob (f_X5_spelt (110 : Int32) (111 : Int32) (116 : Int32) (0 : Int32) (0 : Int32) (0 : Int32)) fun v14 => (if v11 = v14 then ob (f_X5_opensOne S M12 x0 (2 : Int32)) fun M30 => ob (f_X5_fine S M30 x0) fun v32 => (if v32 = 0 then (fb_X5_readOpening_50 S (fb_X5_readOpening_2 S t) M30 x0) else ob (f_X5_pass S M30 x0) fun M36 => (fb_X5_readOpening_50 S (fb_X5_readOpening_2 S t) M36 x0)) else ob (f_X5_here S M12 x0) fun ⟨v17, M18⟩ => (if v17 = (40 : Int32) then ob (f_X5_opensOne S M18 x0 (1 : Int32)) fun M22 => ob (f_X5_sign S M22 x0 (40 : Int32)) fun M25 => nm ((1 : Int32)) fun v26 => (fb_X5_readOpening_2 S t M25 x0 v26) else (fb_X5_readOpening_2 S t M18 x0 v8))))))
theorem b_X5_readOpening_2 {M' : mMm} (X : mCx D n0 P p m c cX5_readOpening 2 s args yX5_readOpening.cls meth none) : ∀ t : Nat, ∀ (M : mMm) (x0 : Nat) (x1 : Int32) (H : Heap) (locs : List Loc) (ls : Array Slot), mHp D n0 S M n s H locs → lv_has ls 2 [(0, .ref x0), (1, .int x1)] → fb_X5_readOpening_2 S t M x0 x1 = some M' → W p l e Rm_X5_readOpening s m args below meth c H locs 0 0 (MQ below (mQ D n0 none S M' n) args s 0 0 (mA n0)) (F0 m 2 ls []) := by
  have hx := X.1.1
  have hb := X.1.2.1
  have hown := X.1.2.2.2.1
  have hts := X.1.2.2.2.2
  intro t
  induction t with
  | zero =>
    intro M x0 x1 H locs ls hp hl hF
    have hF : none = some M' := hF
    cases hF
  | succ t ih =>
    intro M x0 x1 H locs ls hp hl hF
    rw [fb_X5_readOpening_2] at hF
    refine lv_iload_n hx hb dX5_readOpening_2 rfl (lv_at hl 1 rfl) ?_
    refine lv_if_eq (tgt := 80) hx hb dX5_readOpening_3 (by decide) (fun c3 => ?_) (fun c3 => ?_)
    · have hF := if_p c3 hF
      cases hF
      exact m_vret X hp dX5_readOpening_80
    · have hF := if_n c3 hF
      refine lv_aload_n hx hb dX5_readOpening_6 rfl (lv_at hl 0 rfl) ?_
      obtain ⟨g4, hF⟩ := gd_s hF
      obtain ⟨v6, e5, hF⟩ := ob_s hF
      refine m_callV (As := []) (rest := []) X hp (w_X5_fine e5) q1598 q1600 qs64 q144 q1601 0 rfl ds_X5_fine ⟨Nat.le_of_ble_eq_true rfl, Nat.le_of_ble_eq_true rfl⟩ 6 (T := TX5) (N := 40) rfl (by decide) g4 hl.1 rfl (Nat.le_of_ble_eq_true rfl) dX5_readOpening_7 ⟨Nat.le_refl 0, Nat.le_refl 0⟩ (fun H locs hp => ?_)
      refine lv_if_eq (tgt := 80) hx hb dX5_readOpening_10 (by decide) (fun c7 => ?_) (fun c7 => ?_)
      · have hF := if_p c7 hF
        cases hF
        exact m_vret X hp dX5_readOpening_80
      · have hF := if_n c7 hF
        refine lv_iconst (v := 0) hx hb dX5_readOpening_13 (by decide) ?_
        refine lv_topi (fun v8 ev9 => ?_)
        have hF := nm_s hF ev9
        refine lv_istore_n (lv' := [(1, .int v8), (0, .ref x0)]) hx hb dX5_readOpening_14 rfl hl (by decide) rfl (fun ls hl => ?_)
        refine lv_aload_n hx hb dX5_readOpening_15 rfl (lv_at hl 1 rfl) ?_
        obtain ⟨⟨v11, M12⟩, e10, hF⟩ := ob_s hF
        refine m_callV (As := []) (rest := []) X hp (w_X5_word e10) q1610 q1612 qs67 q144 q1613 0 rfl ds_X5_word ⟨Nat.le_of_ble_eq_true rfl, Nat.le_of_ble_eq_true rfl⟩ 6 (T := TX5) (N := 40) rfl (by decide) g4 hl.1 rfl (Nat.le_of_ble_eq_true rfl) dX5_readOpening_16 ⟨Nat.le_refl 0, Nat.le_refl 0⟩ (fun H locs hp => ?_)
        refine lv_bipush (v := 110) hx hb dX5_readOpening_19 (by decide) ?_
        refine lv_bipush (v := 111) hx hb dX5_readOpening_21 (by decide) ?_
        refine lv_bipush (v := 116) hx hb dX5_readOpening_23 (by decide) ?_
        refine lv_iconst (v := 0) hx hb dX5_readOpening_25 (by decide) ?_
        refine lv_iconst (v := 0) hx hb dX5_readOpening_26 (by decide) ?_
        refine lv_iconst (v := 0) hx hb dX5_readOpening_27 (by decide) ?_
        obtain ⟨v14, e13, hF⟩ := ob_s hF
        refine m_callS (As := [.int (110 : Int32), .int (111 : Int32), .int (116 : Int32), .int (0 : Int32), .int (0 : Int32), .int (0 : Int32)]) (rest := [.int v11]) X hp (w_X5_spelt e13) q1620 q1621 q144 q1622 6 rfl ds_X5_spelt ⟨Nat.le_of_ble_eq_true rfl, Nat.le_of_ble_eq_true rfl⟩ hl.1 rfl (Nat.le_of_ble_eq_true rfl) dX5_readOpening_28 ⟨Nat.le_refl 0, Nat.le_refl 0⟩ (fun H locs hp => ?_)
        refine lv_icmp_ne (tgt := 55) hx hb dX5_readOpening_31 (by decide) (fun c15 => ?_) (fun c15 => ?_)
        · have hF := if_n c15 hF
          refine lv_aload_n hx hb dX5_readOpening_55 rfl (lv_at hl 1 rfl) ?_
          obtain ⟨⟨v17, M18⟩, e16, hF⟩ := ob_s hF
          refine m_callV (As := []) (rest := []) X hp (w_X5_here e16) q1602 q1604 qs65 q144 q1605 0 rfl ds_X5_here ⟨Nat.le_of_ble_eq_true rfl, Nat.le_of_ble_eq_true rfl⟩ 6 (T := TX5) (N := 40) rfl (by decide) g4 hl.1 rfl (Nat.le_of_ble_eq_true rfl) dX5_readOpening_56 ⟨Nat.le_refl 0, Nat.le_refl 0⟩ (fun H locs hp => ?_)
          refine lv_bipush (v := 40) hx hb dX5_readOpening_59 (by decide) ?_
          refine lv_icmp_ne (tgt := 2) hx hb dX5_readOpening_61 (by decide) (fun c19 => ?_) (fun c19 => ?_)
          · have hF := if_n c19 hF
            exact ih _ _ _ _ _ _ hp (lv_sub hl [1, 0] rfl) hF
          · have hF := if_p c19 hF
            refine lv_aload_n hx hb dX5_readOpening_64 rfl (lv_at hl 1 rfl) ?_
            refine lv_iconst (v := 1) hx hb dX5_readOpening_65 (by decide) ?_
            obtain ⟨M22, e20, hF⟩ := ob_s hF
            refine m_callV (As := [.int (1 : Int32)]) (rest := []) X hp (w_X5_opensOne e20) q1669 q1671 qs78 q144 q1672 1 rfl ds_X5_opensOne ⟨Nat.le_of_ble_eq_true rfl, Nat.le_of_ble_eq_true rfl⟩ 6 (T := TX5) (N := 40) rfl (by decide) g4 hl.1 rfl (Nat.le_of_ble_eq_true rfl) dX5_readOpening_66 ⟨Nat.le_refl 0, Nat.le_refl 0⟩ (fun H locs hp => ?_)
            refine lv_aload_n hx hb dX5_readOpening_69 rfl (lv_at hl 1 rfl) ?_
            refine lv_bipush (v := 40) hx hb dX5_readOpening_70 (by decide) ?_
            obtain ⟨M25, e23, hF⟩ := ob_s hF
            refine m_callV (As := [.int (40 : Int32)]) (rest := []) X hp (w_X5_sign e23) q1673 q1675 qs79 q144 q1676 1 rfl ds_X5_sign ⟨Nat.le_of_ble_eq_true rfl, Nat.le_of_ble_eq_true rfl⟩ 6 (T := TX5) (N := 40) rfl (by decide) g4 hl.1 rfl (Nat.le_of_ble_eq_true rfl) dX5_readOpening_72 ⟨Nat.le_refl 0, Nat.le_refl 0⟩ (fun H locs hp => ?_)
            refine lv_iconst (v := 1) hx hb dX5_readOpening_75 (by decide) ?_
            refine lv_topi (fun v26 ev27 => ?_)
            have hF := nm_s hF ev27
            refine lv_istore_n (lv' := [(1, .int v26), (0, .ref x0)]) hx hb dX5_readOpening_76 rfl hl (by decide) rfl (fun ls hl => ?_)
            refine lv_goto (tgt := 2) hx hb dX5_readOpening_77 (by decide) ?_
            exact ih _ _ _ _ _ _ hp (lv_sub hl [1, 0] rfl) hF
        · have hF := if_p c15 hF
          refine lv_aload_n hx hb dX5_readOpening_34 rfl (lv_at hl 1 rfl) ?_
          refine lv_iconst (v := 2) hx hb dX5_readOpening_35 (by decide) ?_
          obtain ⟨M30, e28, hF⟩ := ob_s hF
          refine m_callV (As := [.int (2 : Int32)]) (rest := []) X hp (w_X5_opensOne e28) q1669 q1671 qs78 q144 q1672 1 rfl ds_X5_opensOne ⟨Nat.le_of_ble_eq_true rfl, Nat.le_of_ble_eq_true rfl⟩ 6 (T := TX5) (N := 40) rfl (by decide) g4 hl.1 rfl (Nat.le_of_ble_eq_true rfl) dX5_readOpening_36 ⟨Nat.le_refl 0, Nat.le_refl 0⟩ (fun H locs hp => ?_)
          refine lv_aload_n hx hb dX5_readOpening_39 rfl (lv_at hl 1 rfl) ?_
          obtain ⟨v32, e31, hF⟩ := ob_s hF
          refine m_callV (As := []) (rest := []) X hp (w_X5_fine e31) q1598 q1600 qs64 q144 q1601 0 rfl ds_X5_fine ⟨Nat.le_of_ble_eq_true rfl, Nat.le_of_ble_eq_true rfl⟩ 6 (T := TX5) (N := 40) rfl (by decide) g4 hl.1 rfl (Nat.le_of_ble_eq_true rfl) dX5_readOpening_40 ⟨Nat.le_refl 0, Nat.le_refl 0⟩ (fun H locs hp => ?_)
          refine lv_if_eq (tgt := 50) hx hb dX5_readOpening_43 (by decide) (fun c33 => ?_) (fun c33 => ?_)
          · have hF := if_p c33 hF
            exact b_X5_readOpening_50 X _ ih _ _ _ _ _ hp (lv_sub hl [1] rfl) hF
          · have hF := if_n c33 hF
            refine lv_aload_n hx hb dX5_readOpening_46 rfl (lv_at hl 1 rfl) ?_
            obtain ⟨M36, e34, hF⟩ := ob_s hF
            refine m_callV (As := []) (rest := []) X hp (w_X5_pass e34) q1631 q1633 qs70 q144 q1634 0 rfl ds_X5_pass ⟨Nat.le_of_ble_eq_true rfl, Nat.le_of_ble_eq_true rfl⟩ 6 (T := TX5) (N := 40) rfl (by decide) g4 hl.1 rfl (Nat.le_of_ble_eq_true rfl) dX5_readOpening_47 ⟨Nat.le_refl 0, Nat.le_refl 0⟩ (fun H locs hp => ?_)
            exact b_X5_readOpening_50 X _ ih _ _ _ _ _ hp (lv_sub hl [1] rfl) hF
def f_X5_readOpening (S : mSh) (M : mMm) (x0 : Nat) : Option mMm := nm ((1 : Int32)) fun v1 => (fb_X5_readOpening_2 S FU M x0 v1)
theorem w_X5_readOpening {x0 : Nat} {M' : mMm} (hF : f_X5_readOpening S M x0 = some M') : mCt l D n0 P yX5_readOpening cX5_readOpening 2 none 2 47 0 0 [.ref x0] S M n none S M' n := by
  refine m_ofW (by decide) (Nat.le_of_ble_eq_true rfl) (fun p e s m below meth c X hnm hp ls hl => ?_)
  have hx := X.1.1
  have hb := X.1.2.1
  have hown := X.1.2.2.2.1
  have hts := X.1.2.2.2.2
  have hl : lv_has ls 2 [(0, .ref x0)] := hl
  unfold f_X5_readOpening at hF
  refine lv_iconst (v := 1) hx hb dX5_readOpening_0 (by decide) ?_
  refine lv_topi (fun v1 ev2 => ?_)
  have hF := nm_s hF ev2
  refine lv_istore_n (lv' := [(1, .int v1), (0, .ref x0)]) hx hb dX5_readOpening_1 rfl hl (by decide) rfl (fun ls hl => ?_)
  exact b_X5_readOpening_2 X _ _ _ _ _ _ _ hp (lv_sub hl [1, 0] rfl) hF
end
section
variable {l : Launch} {D : va_G} {n0 : Nat} {P : mP} {S : mSh} {M : mMm} {n : Nat} {p : Program} {e : Env} {s : State} {m : MethodId} {args : Array Value} {below : List Frame} {meth : Method} {c : Code}
abbrev Rm_X5_readUnit : Room := { frames := 3, cells := 0, slots := 0, locals := 67 }
def fb_X5_readUnit_54 (S : mSh) (M : mMm) (x0 : Nat) (x1 : Int32) : Option mMm := gd ((S x0).1 = 6) (ob (f_X5_fine S M x0) fun v30 => (if v30 = 0 then some M else ob (f_X5_pass S M x0) fun M34 => ob (f_X5_codes S M34 x0 (1 : Int32) x1) fun M37 => some M37))
theorem b_X5_readUnit_54 {M' : mMm} (X : mCx D n0 P p m c cX5_readUnit 2 s args yX5_readUnit.cls meth none) : ∀ (M : mMm) (x0 : Nat) (x1 : Int32) (H : Heap) (locs : List Loc) (ls : Array Slot), mHp D n0 S M n s H locs → lv_has ls 2 [(0, .ref x0), (1, .int x1)] → fb_X5_readUnit_54 S M x0 x1 = some M' → W p l e Rm_X5_readUnit s m args below meth c H locs 0 0 (MQ below (mQ D n0 none S M' n) args s 0 0 (mA n0)) (F0 m 54 ls []) := by
  have hx := X.1.1
  have hb := X.1.2.1
  have hown := X.1.2.2.2.1
  have hts := X.1.2.2.2.2
  intro M x0 x1 H locs ls hp hl hF
  unfold fb_X5_readUnit_54 at hF
  refine lv_aload_n hx hb dX5_readUnit_54 rfl (lv_at hl 0 rfl) ?_
  obtain ⟨g28, hF⟩ := gd_s hF
  obtain ⟨v30, e29, hF⟩ := ob_s hF
  refine m_callV (As := []) (rest := []) X hp (w_X5_fine e29) q1598 q1600 qs64 q144 q1601 0 rfl ds_X5_fine ⟨Nat.le_of_ble_eq_true rfl, Nat.le_of_ble_eq_true rfl⟩ 6 (T := TX5) (N := 40) rfl (by decide) g28 hl.1 rfl (Nat.le_of_ble_eq_true rfl) dX5_readUnit_55 ⟨Nat.le_refl 0, Nat.le_refl 0⟩ (fun H locs hp => ?_)
  refine lv_if_ne (tgt := 62) hx hb dX5_readUnit_58 (by decide) (fun c31 => ?_) (fun c31 => ?_)
  · have hF := if_n c31 hF
    refine lv_aload_n hx hb dX5_readUnit_62 rfl (lv_at hl 0 rfl) ?_
    obtain ⟨M34, e32, hF⟩ := ob_s hF
    refine m_callV (As := []) (rest := []) X hp (w_X5_pass e32) q1631 q1633 qs70 q144 q1634 0 rfl ds_X5_pass ⟨Nat.le_of_ble_eq_true rfl, Nat.le_of_ble_eq_true rfl⟩ 6 (T := TX5) (N := 40) rfl (by decide) g28 hl.1 rfl (Nat.le_of_ble_eq_true rfl) dX5_readUnit_63 ⟨Nat.le_refl 0, Nat.le_refl 0⟩ (fun H locs hp => ?_)
    refine lv_aload_n hx hb dX5_readUnit_66 rfl (lv_at hl 0 rfl) ?_
    refine lv_iconst (v := 1) hx hb dX5_readUnit_67 (by decide) ?_
    refine lv_iload_n hx hb dX5_readUnit_68 rfl (lv_at hl 1 rfl) ?_
    obtain ⟨M37, e35, hF⟩ := ob_s hF
    refine m_callV (As := [.int (1 : Int32), .int x1]) (rest := []) X hp (w_X5_codes e35) q1654 q1656 qs75 q144 q1657 2 rfl ds_X5_codes ⟨Nat.le_of_ble_eq_true rfl, Nat.le_of_ble_eq_true rfl⟩ 6 (T := TX5) (N := 40) rfl (by decide) g28 hl.1 rfl (Nat.le_of_ble_eq_true rfl) dX5_readUnit_69 ⟨Nat.le_refl 0, Nat.le_refl 0⟩ (fun H locs hp => ?_)
    cases hF
    exact m_vret X hp dX5_readUnit_72
  · have hF := if_p c31 hF
    cases hF
    exact m_vret X hp dX5_readUnit_61
def f_X5_readUnit (S : mSh) (M : mMm) (x0 : Nat) : Option mMm := gd ((S x0).1 = 6) (ob (f_X5_fine S M x0) fun v3 => (if v3 = 0 then some M else ob (f_X5_here S M x0) fun ⟨v6, M7⟩ => ob (f_X5_isDigit v6) fun v9 => (if v9 = 0 then ob (f_X5_word S M7 x0) fun ⟨v12, M13⟩ => ob (f_X5_factOf v12) fun v15 => (if v15 = (-1 : Int32) then ob (rI S M13 x0 6 9) fun v17 => ob (f_X5_wrong S M13 x0 (1 : Int32) v17) fun M21 => (fb_X5_readUnit_54 S M21 x0 v15) else (fb_X5_readUnit_54 S M13 x0 v15)) else ob (f_X5_number S M7 x0 (0 : Int32) (9999 : Int32)) fun ⟨v23, M24⟩ => ob (f_X5_codes S M24 x0 (0 : Int32) v23) fun M27 => some M27)))
theorem w_X5_readUnit {x0 : Nat} {M' : mMm} (hF : f_X5_readUnit S M x0 = some M') : mCt l D n0 P yX5_readUnit cX5_readUnit 2 none 3 67 0 0 [.ref x0] S M n none S M' n := by
  refine m_ofW (by decide) (Nat.le_of_ble_eq_true rfl) (fun p e s m below meth c X hnm hp ls hl => ?_)
  have hx := X.1.1
  have hb := X.1.2.1
  have hown := X.1.2.2.2.1
  have hts := X.1.2.2.2.2
  have hl : lv_has ls 2 [(0, .ref x0)] := hl
  unfold f_X5_readUnit at hF
  refine lv_aload_n hx hb dX5_readUnit_0 rfl (lv_at hl 0 rfl) ?_
  obtain ⟨g1, hF⟩ := gd_s hF
  obtain ⟨v3, e2, hF⟩ := ob_s hF
  refine m_callV (As := []) (rest := []) X hp (w_X5_fine e2) q1598 q1600 qs64 q144 q1601 0 rfl ds_X5_fine ⟨Nat.le_of_ble_eq_true rfl, Nat.le_of_ble_eq_true rfl⟩ 6 (T := TX5) (N := 40) rfl (by decide) g1 hl.1 rfl (Nat.le_of_ble_eq_true rfl) dX5_readUnit_1 ⟨Nat.le_refl 0, Nat.le_refl 0⟩ (fun H locs hp => ?_)
  refine lv_if_ne (tgt := 8) hx hb dX5_readUnit_4 (by decide) (fun c4 => ?_) (fun c4 => ?_)
  · have hF := if_n c4 hF
    refine lv_aload_n hx hb dX5_readUnit_8 rfl (lv_at hl 0 rfl) ?_
    obtain ⟨⟨v6, M7⟩, e5, hF⟩ := ob_s hF
    refine m_callV (As := []) (rest := []) X hp (w_X5_here e5) q1602 q1604 qs65 q144 q1605 0 rfl ds_X5_here ⟨Nat.le_of_ble_eq_true rfl, Nat.le_of_ble_eq_true rfl⟩ 6 (T := TX5) (N := 40) rfl (by decide) g1 hl.1 rfl (Nat.le_of_ble_eq_true rfl) dX5_readUnit_9 ⟨Nat.le_refl 0, Nat.le_refl 0⟩ (fun H locs hp => ?_)
    obtain ⟨v9, e8, hF⟩ := ob_s hF
    refine m_callS (As := [.int v6]) (rest := []) X hp (w_X5_isDigit e8) q1647 q1648 q144 q1649 1 rfl ds_X5_isDigit ⟨Nat.le_of_ble_eq_true rfl, Nat.le_of_ble_eq_true rfl⟩ hl.1 rfl (Nat.le_of_ble_eq_true rfl) dX5_readUnit_12 ⟨Nat.le_refl 0, Nat.le_refl 0⟩ (fun H locs hp => ?_)
    refine lv_if_eq (tgt := 32) hx hb dX5_readUnit_15 (by decide) (fun c10 => ?_) (fun c10 => ?_)
    · have hF := if_p c10 hF
      refine lv_aload_n hx hb dX5_readUnit_32 rfl (lv_at hl 0 rfl) ?_
      obtain ⟨⟨v12, M13⟩, e11, hF⟩ := ob_s hF
      refine m_callV (As := []) (rest := []) X hp (w_X5_word e11) q1610 q1612 qs67 q144 q1613 0 rfl ds_X5_word ⟨Nat.le_of_ble_eq_true rfl, Nat.le_of_ble_eq_true rfl⟩ 6 (T := TX5) (N := 40) rfl (by decide) g1 hl.1 rfl (Nat.le_of_ble_eq_true rfl) dX5_readUnit_33 ⟨Nat.le_refl 0, Nat.le_refl 0⟩ (fun H locs hp => ?_)
      obtain ⟨v15, e14, hF⟩ := ob_s hF
      refine m_callS (As := [.int v12]) (rest := []) X hp (w_X5_factOf e14) q1658 q1659 q144 q1660 1 rfl ds_X5_factOf ⟨Nat.le_of_ble_eq_true rfl, Nat.le_of_ble_eq_true rfl⟩ hl.1 rfl (Nat.le_of_ble_eq_true rfl) dX5_readUnit_36 ⟨Nat.le_refl 0, Nat.le_refl 0⟩ (fun H locs hp => ?_)
      refine lv_istore_n (lv' := [(1, .int v15), (0, .ref x0)]) hx hb dX5_readUnit_39 rfl hl (by decide) rfl (fun ls hl => ?_)
      refine lv_iload_n hx hb dX5_readUnit_40 rfl (lv_at hl 0 rfl) ?_
      refine lv_iconst (v := -1) hx hb dX5_readUnit_41 (by decide) ?_
      refine lv_icmp_ne (tgt := 54) hx hb dX5_readUnit_42 (by decide) (fun c16 => ?_) (fun c16 => ?_)
      · have hF := if_n c16 hF
        exact b_X5_readUnit_54 X _ _ _ _ _ _ hp (lv_sub hl [1, 0] rfl) hF
      · have hF := if_p c16 hF
        refine lv_aload_n hx hb dX5_readUnit_45 rfl (lv_at hl 1 rfl) ?_
        refine lv_iconst (v := 1) hx hb dX5_readUnit_46 (by decide) ?_
        refine lv_aload_n hx hb dX5_readUnit_47 rfl (lv_at hl 1 rfl) ?_
        obtain ⟨v17, e18, hF⟩ := ob_s hF
        refine m_getI X hp e18 kX5 (Nat.le_of_ble_eq_true rfl) q1468 dX5_readUnit_48 ?_
        obtain ⟨M21, e19, hF⟩ := ob_s hF
        refine m_callV (As := [.int (1 : Int32), .int v17]) (rest := []) X hp (w_X5_wrong e19) q1627 q1629 qs69 q144 q1630 2 rfl ds_X5_wrong ⟨Nat.le_of_ble_eq_true rfl, Nat.le_of_ble_eq_true rfl⟩ 6 (T := TX5) (N := 40) rfl (by decide) (rI_s e18).1 hl.1 rfl (Nat.le_of_ble_eq_true rfl) dX5_readUnit_51 ⟨Nat.le_refl 0, Nat.le_refl 0⟩ (fun H locs hp => ?_)
        exact b_X5_readUnit_54 X _ _ _ _ _ _ hp (lv_sub hl [1, 0] rfl) hF
    · have hF := if_n c10 hF
      refine lv_aload_n hx hb dX5_readUnit_18 rfl (lv_at hl 0 rfl) ?_
      refine lv_iconst (v := 0) hx hb dX5_readUnit_19 (by decide) ?_
      refine lv_aload_n hx hb dX5_readUnit_20 rfl (lv_at hl 0 rfl) ?_
      refine lv_iconst (v := 0) hx hb dX5_readUnit_21 (by decide) ?_
      refine lv_sipush (v := 9999) hx hb dX5_readUnit_22 (by decide) ?_
      obtain ⟨⟨v23, M24⟩, e22, hF⟩ := ob_s hF
      refine m_callV (As := [.int (0 : Int32), .int (9999 : Int32)]) (rest := [.int (0 : Int32), .ref x0]) X hp (w_X5_number e22) q1650 q1652 qs74 q144 q1653 2 rfl ds_X5_number ⟨Nat.le_of_ble_eq_true rfl, Nat.le_of_ble_eq_true rfl⟩ 6 (T := TX5) (N := 40) rfl (by decide) g1 hl.1 rfl (Nat.le_of_ble_eq_true rfl) dX5_readUnit_25 ⟨Nat.le_refl 0, Nat.le_refl 0⟩ (fun H locs hp => ?_)
      obtain ⟨M27, e25, hF⟩ := ob_s hF
      refine m_callV (As := [.int (0 : Int32), .int v23]) (rest := []) X hp (w_X5_codes e25) q1654 q1656 qs75 q144 q1657 2 rfl ds_X5_codes ⟨Nat.le_of_ble_eq_true rfl, Nat.le_of_ble_eq_true rfl⟩ 6 (T := TX5) (N := 40) rfl (by decide) g1 hl.1 rfl (Nat.le_of_ble_eq_true rfl) dX5_readUnit_28 ⟨Nat.le_refl 0, Nat.le_refl 0⟩ (fun H locs hp => ?_)
      cases hF
      exact m_vret X hp dX5_readUnit_31
  · have hF := if_p c4 hF
    cases hF
    exact m_vret X hp dX5_readUnit_7
end
section
variable {l : Launch} {D : va_G} {n0 : Nat} {P : mP} {S : mSh} {M : mMm} {n : Nat} {p : Program} {e : Env} {s : State} {m : MethodId} {args : Array Value} {below : List Frame} {meth : Method} {c : Code}
abbrev Rm_X5_readPart : Room := { frames := 4, cells := 0, slots := 0, locals := 88 }
def fb_X5_readPart_43 (S : mSh) (k4 : mMm → Nat → Option mMm) (M : mMm) (x0 : Nat) (y0 : Int32) : Option mMm := ob (rI S M x0 6 9) fun v22 => ob (wF S M x0 6 9 (.int (v22 + (1 : Int32)))) fun M24 => (if y0 = 0 then ob (f_X5_readUnit S M24 x0) fun M29 => ob (f_X5_codes S M29 x0 (4 : Int32) (0 : Int32)) fun M32 => (k4 M32 x0) else ob (f_X5_number S M24 x0 (1 : Int32) (9999 : Int32)) fun ⟨v34, M35⟩ => ob (f_X5_codes S M35 x0 (5 : Int32) v34) fun M38 => (k4 M38 x0))
theorem b_X5_readPart_43 {M' : mMm} (X : mCx D n0 P p m c cX5_readPart 2 s args yX5_readPart.cls meth none) (k4 : mMm → Nat → Option mMm) (hk4 : ∀ (M : mMm) (x0 : Nat) (H : Heap) (locs : List Loc) (ls : Array Slot), mHp D n0 S M n s H locs → lv_has ls 2 [(0, .ref x0)] → k4 M x0 = some M' → W p l e Rm_X5_readPart s m args below meth c H locs 0 0 (MQ below (mQ D n0 none S M' n) args s 0 0 (mA n0)) (F0 m 4 ls [])) : ∀ (M : mMm) (x0 : Nat) (y0 : Int32) (H : Heap) (locs : List Loc) (ls : Array Slot), mHp D n0 S M n s H locs → lv_has ls 2 [(0, .ref x0)] → fb_X5_readPart_43 S k4 M x0 y0 = some M' → W p l e Rm_X5_readPart s m args below meth c H locs 0 0 (MQ below (mQ D n0 none S M' n) args s 0 0 (mA n0)) (F0 m 43 ls [.int y0]) := by
  have hx := X.1.1
  have hb := X.1.2.1
  have hown := X.1.2.2.2.1
  have hts := X.1.2.2.2.2
  intro M x0 y0 H locs ls hp hl hF
  unfold fb_X5_readPart_43 at hF
  refine lv_istore_n (lv' := [(1, .int y0), (0, .ref x0)]) hx hb dX5_readPart_43 rfl hl (by decide) rfl (fun ls hl => ?_)
  refine lv_aload_n hx hb dX5_readPart_44 rfl (lv_at hl 1 rfl) ?_
  refine lv_dup hx hb dX5_readPart_45 rfl ?_
  obtain ⟨v22, e23, hF⟩ := ob_s hF
  refine m_getI X hp e23 kX5 (Nat.le_of_ble_eq_true rfl) q1468 dX5_readPart_46 ?_
  refine lv_iconst (v := 1) hx hb dX5_readPart_49 (by decide) ?_
  refine lv_iadd hx hb dX5_readPart_50 ?_
  obtain ⟨M24, e25, hF⟩ := ob_s hF
  refine m_putW X hp e25 kX5 (Nat.le_of_ble_eq_true rfl) q1468 rfl rfl rfl dX5_readPart_51 (fun H locs hp => ?_)
  refine lv_iload_n hx hb dX5_readPart_54 rfl (lv_at hl 0 rfl) ?_
  refine lv_if_eq (tgt := 74) hx hb dX5_readPart_55 (by decide) (fun c26 => ?_) (fun c26 => ?_)
  · have hF := if_p c26 hF
    refine lv_aload_n hx hb dX5_readPart_74 rfl (lv_at hl 1 rfl) ?_
    obtain ⟨M29, e27, hF⟩ := ob_s hF
    refine m_callV (As := []) (rest := []) X hp (w_X5_readUnit e27) q1643 q1645 qs73 q144 q1646 0 rfl ds_X5_readUnit ⟨Nat.le_of_ble_eq_true rfl, Nat.le_of_ble_eq_true rfl⟩ 6 (T := TX5) (N := 40) rfl (by decide) (wF_s e25).1 hl.1 rfl (Nat.le_of_ble_eq_true rfl) dX5_readPart_75 ⟨Nat.le_refl 0, Nat.le_refl 0⟩ (fun H locs hp => ?_)
    refine lv_aload_n hx hb dX5_readPart_78 rfl (lv_at hl 1 rfl) ?_
    refine lv_iconst (v := 4) hx hb dX5_readPart_79 (by decide) ?_
    refine lv_iconst (v := 0) hx hb dX5_readPart_80 (by decide) ?_
    obtain ⟨M32, e30, hF⟩ := ob_s hF
    refine m_callV (As := [.int (4 : Int32), .int (0 : Int32)]) (rest := []) X hp (w_X5_codes e30) q1654 q1656 qs75 q144 q1657 2 rfl ds_X5_codes ⟨Nat.le_of_ble_eq_true rfl, Nat.le_of_ble_eq_true rfl⟩ 6 (T := TX5) (N := 40) rfl (by decide) (wF_s e25).1 hl.1 rfl (Nat.le_of_ble_eq_true rfl) dX5_readPart_81 ⟨Nat.le_refl 0, Nat.le_refl 0⟩ (fun H locs hp => ?_)
    refine lv_goto (tgt := 4) hx hb dX5_readPart_84 (by decide) ?_
    exact hk4 _ _ _ _ _ hp (lv_sub hl [1] rfl) hF
  · have hF := if_n c26 hF
    refine lv_aload_n hx hb dX5_readPart_58 rfl (lv_at hl 1 rfl) ?_
    refine lv_iconst (v := 5) hx hb dX5_readPart_59 (by decide) ?_
    refine lv_aload_n hx hb dX5_readPart_60 rfl (lv_at hl 1 rfl) ?_
    refine lv_iconst (v := 1) hx hb dX5_readPart_61 (by decide) ?_
    refine lv_sipush (v := 9999) hx hb dX5_readPart_62 (by decide) ?_
    obtain ⟨⟨v34, M35⟩, e33, hF⟩ := ob_s hF
    refine m_callV (As := [.int (1 : Int32), .int (9999 : Int32)]) (rest := [.int (5 : Int32), .ref x0]) X hp (w_X5_number e33) q1650 q1652 qs74 q144 q1653 2 rfl ds_X5_number ⟨Nat.le_of_ble_eq_true rfl, Nat.le_of_ble_eq_true rfl⟩ 6 (T := TX5) (N := 40) rfl (by decide) (wF_s e25).1 hl.1 rfl (Nat.le_of_ble_eq_true rfl) dX5_readPart_65 ⟨Nat.le_refl 0, Nat.le_refl 0⟩ (fun H locs hp => ?_)
    obtain ⟨M38, e36, hF⟩ := ob_s hF
    refine m_callV (As := [.int (5 : Int32), .int v34]) (rest := []) X hp (w_X5_codes e36) q1654 q1656 qs75 q144 q1657 2 rfl ds_X5_codes ⟨Nat.le_of_ble_eq_true rfl, Nat.le_of_ble_eq_true rfl⟩ 6 (T := TX5) (N := 40) rfl (by decide) (wF_s e25).1 hl.1 rfl (Nat.le_of_ble_eq_true rfl) dX5_readPart_68 ⟨Nat.le_refl 0, Nat.le_refl 0⟩ (fun H locs hp => ?_)
    refine lv_goto (tgt := 84) hx hb dX5_readPart_71 (by decide) ?_
    refine lv_goto (tgt := 4) hx hb dX5_readPart_84 (by decide) ?_
    exact hk4 _ _ _ _ _ hp (lv_sub hl [1] rfl) hF
def fb_X5_readPart_29 (S : mSh) (k4 : mMm → Nat → Option mMm) (M : mMm) (x0 : Nat) : Option mMm := gd ((S x0).1 = 6) (ob (f_X5_here S M x0) fun ⟨v19, M20⟩ => (if v19 = (47 : Int32) then (fb_X5_readPart_43 S k4 M20 x0 (1 : Int32)) else (fb_X5_readPart_43 S k4 M20 x0 (0 : Int32))))
theorem b_X5_readPart_29 {M' : mMm} (X : mCx D n0 P p m c cX5_readPart 2 s args yX5_readPart.cls meth none) (k4 : mMm → Nat → Option mMm) (hk4 : ∀ (M : mMm) (x0 : Nat) (H : Heap) (locs : List Loc) (ls : Array Slot), mHp D n0 S M n s H locs → lv_has ls 2 [(0, .ref x0)] → k4 M x0 = some M' → W p l e Rm_X5_readPart s m args below meth c H locs 0 0 (MQ below (mQ D n0 none S M' n) args s 0 0 (mA n0)) (F0 m 4 ls [])) : ∀ (M : mMm) (x0 : Nat) (H : Heap) (locs : List Loc) (ls : Array Slot), mHp D n0 S M n s H locs → lv_has ls 2 [(0, .ref x0)] → fb_X5_readPart_29 S k4 M x0 = some M' → W p l e Rm_X5_readPart s m args below meth c H locs 0 0 (MQ below (mQ D n0 none S M' n) args s 0 0 (mA n0)) (F0 m 29 ls []) := by
  have hx := X.1.1
  have hb := X.1.2.1
  have hown := X.1.2.2.2.1
  have hts := X.1.2.2.2.2
  intro M x0 H locs ls hp hl hF
  unfold fb_X5_readPart_29 at hF
  refine lv_aload_n hx hb dX5_readPart_29 rfl (lv_at hl 0 rfl) ?_
  obtain ⟨g17, hF⟩ := gd_s hF
  obtain ⟨⟨v19, M20⟩, e18, hF⟩ := ob_s hF
  refine m_callV (As := []) (rest := []) X hp (w_X5_here e18) q1602 q1604 qs65 q144 q1605 0 rfl ds_X5_here ⟨Nat.le_of_ble_eq_true rfl, Nat.le_of_ble_eq_true rfl⟩ 6 (T := TX5) (N := 40) rfl (by decide) g17 hl.1 rfl (Nat.le_of_ble_eq_true rfl) dX5_readPart_30 ⟨Nat.le_refl 0, Nat.le_refl 0⟩ (fun H locs hp => ?_)
  refine lv_bipush (v := 47) hx hb dX5_readPart_33 (by decide) ?_
  refine lv_icmp_ne (tgt := 42) hx hb dX5_readPart_35 (by decide) (fun c21 => ?_) (fun c21 => ?_)
  · have hF := if_n c21 hF
    refine lv_iconst (v := 0) hx hb dX5_readPart_42 (by decide) ?_
    exact b_X5_readPart_43 X _ hk4 _ _ _ _ _ _ hp (lv_sub hl [0] rfl) hF
  · have hF := if_p c21 hF
    refine lv_iconst (v := 1) hx hb dX5_readPart_38 (by decide) ?_
    refine lv_goto (tgt := 43) hx hb dX5_readPart_39 (by decide) ?_
    exact b_X5_readPart_43 X _ hk4 _ _ _ _ _ _ hp (lv_sub hl [0] rfl) hF
def fb_X5_readPart_4 (S : mSh) : Nat → mMm → Nat → Option mMm
  | 0, _, _ => none
  | t + 1, M, x0 => gd ((S x0).1 = 6) (ob (f_X5_fine S M x0) fun v7 => (if v7 = 0 then some M else ob (f_X5_here S M x0) fun ⟨v10, M11⟩ => (if v10 = (42 : Int32) then (fb_X5_readPart_29 S (fb_X5_readPart_4 S t) M11 x0) else ob (f_X5_here S M11 x0) fun ⟨v14, M15⟩ => (if v14 = (47 : Int32) then (fb_X5_readPart_29 S (fb_X5_readPart_4 S t) M15 x0) else some M15))))
theorem b_X5_readPart_4 {M' : mMm} (X : mCx D n0 P p m c cX5_readPart 2 s args yX5_readPart.cls meth none) : ∀ t : Nat, ∀ (M : mMm) (x0 : Nat) (H : Heap) (locs : List Loc) (ls : Array Slot), mHp D n0 S M n s H locs → lv_has ls 2 [(0, .ref x0)] → fb_X5_readPart_4 S t M x0 = some M' → W p l e Rm_X5_readPart s m args below meth c H locs 0 0 (MQ below (mQ D n0 none S M' n) args s 0 0 (mA n0)) (F0 m 4 ls []) := by
  have hx := X.1.1
  have hb := X.1.2.1
  have hown := X.1.2.2.2.1
  have hts := X.1.2.2.2.2
  intro t
  induction t with
  | zero =>
    intro M x0 H locs ls hp hl hF
    have hF : none = some M' := hF
    cases hF
  | succ t ih =>
    intro M x0 H locs ls hp hl hF
    rw [fb_X5_readPart_4] at hF
    refine lv_aload_n hx hb dX5_readPart_4 rfl (lv_at hl 0 rfl) ?_
    obtain ⟨g5, hF⟩ := gd_s hF
    obtain ⟨v7, e6, hF⟩ := ob_s hF
    refine m_callV (As := []) (rest := []) X hp (w_X5_fine e6) q1598 q1600 qs64 q144 q1601 0 rfl ds_X5_fine ⟨Nat.le_of_ble_eq_true rfl, Nat.le_of_ble_eq_true rfl⟩ 6 (T := TX5) (N := 40) rfl (by decide) g5 hl.1 rfl (Nat.le_of_ble_eq_true rfl) dX5_readPart_5 ⟨Nat.le_refl 0, Nat.le_refl 0⟩ (fun H locs hp => ?_)
    refine lv_if_eq (tgt := 87) hx hb dX5_readPart_8 (by decide) (fun c8 => ?_) (fun c8 => ?_)
    · have hF := if_p c8 hF
      cases hF
      exact m_vret X hp dX5_readPart_87
    · have hF := if_n c8 hF
      refine lv_aload_n hx hb dX5_readPart_11 rfl (lv_at hl 0 rfl) ?_
      obtain ⟨⟨v10, M11⟩, e9, hF⟩ := ob_s hF
      refine m_callV (As := []) (rest := []) X hp (w_X5_here e9) q1602 q1604 qs65 q144 q1605 0 rfl ds_X5_here ⟨Nat.le_of_ble_eq_true rfl, Nat.le_of_ble_eq_true rfl⟩ 6 (T := TX5) (N := 40) rfl (by decide) g5 hl.1 rfl (Nat.le_of_ble_eq_true rfl) dX5_readPart_12 ⟨Nat.le_refl 0, Nat.le_refl 0⟩ (fun H locs hp => ?_)
      refine lv_bipush (v := 42) hx hb dX5_readPart_15 (by decide) ?_
      refine lv_icmp_eq (tgt := 29) hx hb dX5_readPart_17 (by decide) (fun c12 => ?_) (fun c12 => ?_)
      · have hF := if_p c12 hF
        exact b_X5_readPart_29 X _ ih _ _ _ _ _ hp (lv_sub hl [0] rfl) hF
      · have hF := if_n c12 hF
        refine lv_aload_n hx hb dX5_readPart_20 rfl (lv_at hl 0 rfl) ?_
        obtain ⟨⟨v14, M15⟩, e13, hF⟩ := ob_s hF
        refine m_callV (As := []) (rest := []) X hp (w_X5_here e13) q1602 q1604 qs65 q144 q1605 0 rfl ds_X5_here ⟨Nat.le_of_ble_eq_true rfl, Nat.le_of_ble_eq_true rfl⟩ 6 (T := TX5) (N := 40) rfl (by decide) g5 hl.1 rfl (Nat.le_of_ble_eq_true rfl) dX5_readPart_21 ⟨Nat.le_refl 0, Nat.le_refl 0⟩ (fun H locs hp => ?_)
        refine lv_bipush (v := 47) hx hb dX5_readPart_24 (by decide) ?_
        refine lv_icmp_ne (tgt := 87) hx hb dX5_readPart_26 (by decide) (fun c16 => ?_) (fun c16 => ?_)
        · have hF := if_n c16 hF
          cases hF
          exact m_vret X hp dX5_readPart_87
        · have hF := if_p c16 hF
          exact b_X5_readPart_29 X _ ih _ _ _ _ _ hp (lv_sub hl [0] rfl) hF
def f_X5_readPart (S : mSh) (M : mMm) (x0 : Nat) : Option mMm := gd ((S x0).1 = 6) (ob (f_X5_readUnit S M x0) fun M4 => (fb_X5_readPart_4 S FU M4 x0))
theorem w_X5_readPart {x0 : Nat} {M' : mMm} (hF : f_X5_readPart S M x0 = some M') : mCt l D n0 P yX5_readPart cX5_readPart 2 none 4 88 0 0 [.ref x0] S M n none S M' n := by
  refine m_ofW (by decide) (Nat.le_of_ble_eq_true rfl) (fun p e s m below meth c X hnm hp ls hl => ?_)
  have hx := X.1.1
  have hb := X.1.2.1
  have hown := X.1.2.2.2.1
  have hts := X.1.2.2.2.2
  have hl : lv_has ls 2 [(0, .ref x0)] := hl
  unfold f_X5_readPart at hF
  refine lv_aload_n hx hb dX5_readPart_0 rfl (lv_at hl 0 rfl) ?_
  obtain ⟨g1, hF⟩ := gd_s hF
  obtain ⟨M4, e2, hF⟩ := ob_s hF
  refine m_callV (As := []) (rest := []) X hp (w_X5_readUnit e2) q1643 q1645 qs73 q144 q1646 0 rfl ds_X5_readUnit ⟨Nat.le_of_ble_eq_true rfl, Nat.le_of_ble_eq_true rfl⟩ 6 (T := TX5) (N := 40) rfl (by decide) g1 hl.1 rfl (Nat.le_of_ble_eq_true rfl) dX5_readPart_1 ⟨Nat.le_refl 0, Nat.le_refl 0⟩ (fun H locs hp => ?_)
  exact b_X5_readPart_4 X _ _ _ _ _ _ hp (lv_sub hl [0] rfl) hF
end
section
variable {l : Launch} {D : va_G} {n0 : Nat} {P : mP} {S : mSh} {M : mMm} {n : Nat} {p : Program} {e : Env} {s : State} {m : MethodId} {args : Array Value} {below : List Frame} {meth : Method} {c : Code}
abbrev Rm_X5_readSum : Room := { frames := 5, cells := 0, slots := 0, locals := 109 }
def fb_X5_readSum_43 (S : mSh) (k4 : mMm → Nat → Option mMm) (M : mMm) (x0 : Nat) (y0 : Int32) : Option mMm := ob (rI S M x0 6 9) fun v22 => ob (wF S M x0 6 9 (.int (v22 + (1 : Int32)))) fun M24 => ob (f_X5_readPart S M24 x0) fun M28 => ob (f_X5_codes S M28 x0 y0 (0 : Int32)) fun M31 => (k4 M31 x0)
theorem b_X5_readSum_43 {M' : mMm} (X : mCx D n0 P p m c cX5_readSum 2 s args yX5_readSum.cls meth none) (k4 : mMm → Nat → Option mMm) (hk4 : ∀ (M : mMm) (x0 : Nat) (H : Heap) (locs : List Loc) (ls : Array Slot), mHp D n0 S M n s H locs → lv_has ls 2 [(0, .ref x0)] → k4 M x0 = some M' → W p l e Rm_X5_readSum s m args below meth c H locs 0 0 (MQ below (mQ D n0 none S M' n) args s 0 0 (mA n0)) (F0 m 4 ls [])) : ∀ (M : mMm) (x0 : Nat) (y0 : Int32) (H : Heap) (locs : List Loc) (ls : Array Slot), mHp D n0 S M n s H locs → lv_has ls 2 [(0, .ref x0)] → fb_X5_readSum_43 S k4 M x0 y0 = some M' → W p l e Rm_X5_readSum s m args below meth c H locs 0 0 (MQ below (mQ D n0 none S M' n) args s 0 0 (mA n0)) (F0 m 43 ls [.int y0]) := by
  have hx := X.1.1
  have hb := X.1.2.1
  have hown := X.1.2.2.2.1
  have hts := X.1.2.2.2.2
  intro M x0 y0 H locs ls hp hl hF
  unfold fb_X5_readSum_43 at hF
  refine lv_istore_n (lv' := [(1, .int y0), (0, .ref x0)]) hx hb dX5_readSum_43 rfl hl (by decide) rfl (fun ls hl => ?_)
  refine lv_aload_n hx hb dX5_readSum_44 rfl (lv_at hl 1 rfl) ?_
  refine lv_dup hx hb dX5_readSum_45 rfl ?_
  obtain ⟨v22, e23, hF⟩ := ob_s hF
  refine m_getI X hp e23 kX5 (Nat.le_of_ble_eq_true rfl) q1468 dX5_readSum_46 ?_
  refine lv_iconst (v := 1) hx hb dX5_readSum_49 (by decide) ?_
  refine lv_iadd hx hb dX5_readSum_50 ?_
  obtain ⟨M24, e25, hF⟩ := ob_s hF
  refine m_putW X hp e25 kX5 (Nat.le_of_ble_eq_true rfl) q1468 rfl rfl rfl dX5_readSum_51 (fun H locs hp => ?_)
  refine lv_aload_n hx hb dX5_readSum_54 rfl (lv_at hl 1 rfl) ?_
  obtain ⟨M28, e26, hF⟩ := ob_s hF
  refine m_callV (As := []) (rest := []) X hp (w_X5_readPart e26) q1639 q1641 qs72 q144 q1642 0 rfl ds_X5_readPart ⟨Nat.le_of_ble_eq_true rfl, Nat.le_of_ble_eq_true rfl⟩ 6 (T := TX5) (N := 40) rfl (by decide) (wF_s e25).1 hl.1 rfl (Nat.le_of_ble_eq_true rfl) dX5_readSum_55 ⟨Nat.le_refl 0, Nat.le_refl 0⟩ (fun H locs hp => ?_)
  refine lv_aload_n hx hb dX5_readSum_58 rfl (lv_at hl 1 rfl) ?_
  refine lv_iload_n hx hb dX5_readSum_59 rfl (lv_at hl 0 rfl) ?_
  refine lv_iconst (v := 0) hx hb dX5_readSum_60 (by decide) ?_
  obtain ⟨M31, e29, hF⟩ := ob_s hF
  refine m_callV (As := [.int y0, .int (0 : Int32)]) (rest := []) X hp (w_X5_codes e29) q1654 q1656 qs75 q144 q1657 2 rfl ds_X5_codes ⟨Nat.le_of_ble_eq_true rfl, Nat.le_of_ble_eq_true rfl⟩ 6 (T := TX5) (N := 40) rfl (by decide) (wF_s e25).1 hl.1 rfl (Nat.le_of_ble_eq_true rfl) dX5_readSum_61 ⟨Nat.le_refl 0, Nat.le_refl 0⟩ (fun H locs hp => ?_)
  refine lv_goto (tgt := 4) hx hb dX5_readSum_64 (by decide) ?_
  exact hk4 _ _ _ _ _ hp (lv_sub hl [1] rfl) hF
def fb_X5_readSum_29 (S : mSh) (k4 : mMm → Nat → Option mMm) (M : mMm) (x0 : Nat) : Option mMm := gd ((S x0).1 = 6) (ob (f_X5_here S M x0) fun ⟨v19, M20⟩ => (if v19 = (43 : Int32) then (fb_X5_readSum_43 S k4 M20 x0 (2 : Int32)) else (fb_X5_readSum_43 S k4 M20 x0 (3 : Int32))))
theorem b_X5_readSum_29 {M' : mMm} (X : mCx D n0 P p m c cX5_readSum 2 s args yX5_readSum.cls meth none) (k4 : mMm → Nat → Option mMm) (hk4 : ∀ (M : mMm) (x0 : Nat) (H : Heap) (locs : List Loc) (ls : Array Slot), mHp D n0 S M n s H locs → lv_has ls 2 [(0, .ref x0)] → k4 M x0 = some M' → W p l e Rm_X5_readSum s m args below meth c H locs 0 0 (MQ below (mQ D n0 none S M' n) args s 0 0 (mA n0)) (F0 m 4 ls [])) : ∀ (M : mMm) (x0 : Nat) (H : Heap) (locs : List Loc) (ls : Array Slot), mHp D n0 S M n s H locs → lv_has ls 2 [(0, .ref x0)] → fb_X5_readSum_29 S k4 M x0 = some M' → W p l e Rm_X5_readSum s m args below meth c H locs 0 0 (MQ below (mQ D n0 none S M' n) args s 0 0 (mA n0)) (F0 m 29 ls []) := by
  have hx := X.1.1
  have hb := X.1.2.1
  have hown := X.1.2.2.2.1
  have hts := X.1.2.2.2.2
  intro M x0 H locs ls hp hl hF
  unfold fb_X5_readSum_29 at hF
  refine lv_aload_n hx hb dX5_readSum_29 rfl (lv_at hl 0 rfl) ?_
  obtain ⟨g17, hF⟩ := gd_s hF
  obtain ⟨⟨v19, M20⟩, e18, hF⟩ := ob_s hF
  refine m_callV (As := []) (rest := []) X hp (w_X5_here e18) q1602 q1604 qs65 q144 q1605 0 rfl ds_X5_here ⟨Nat.le_of_ble_eq_true rfl, Nat.le_of_ble_eq_true rfl⟩ 6 (T := TX5) (N := 40) rfl (by decide) g17 hl.1 rfl (Nat.le_of_ble_eq_true rfl) dX5_readSum_30 ⟨Nat.le_refl 0, Nat.le_refl 0⟩ (fun H locs hp => ?_)
  refine lv_bipush (v := 43) hx hb dX5_readSum_33 (by decide) ?_
  refine lv_icmp_ne (tgt := 42) hx hb dX5_readSum_35 (by decide) (fun c21 => ?_) (fun c21 => ?_)
  · have hF := if_n c21 hF
    refine lv_iconst (v := 3) hx hb dX5_readSum_42 (by decide) ?_
    exact b_X5_readSum_43 X _ hk4 _ _ _ _ _ _ hp (lv_sub hl [0] rfl) hF
  · have hF := if_p c21 hF
    refine lv_iconst (v := 2) hx hb dX5_readSum_38 (by decide) ?_
    refine lv_goto (tgt := 43) hx hb dX5_readSum_39 (by decide) ?_
    exact b_X5_readSum_43 X _ hk4 _ _ _ _ _ _ hp (lv_sub hl [0] rfl) hF
def fb_X5_readSum_4 (S : mSh) : Nat → mMm → Nat → Option mMm
  | 0, _, _ => none
  | t + 1, M, x0 => gd ((S x0).1 = 6) (ob (f_X5_fine S M x0) fun v7 => (if v7 = 0 then some M else ob (f_X5_here S M x0) fun ⟨v10, M11⟩ => (if v10 = (43 : Int32) then (fb_X5_readSum_29 S (fb_X5_readSum_4 S t) M11 x0) else ob (f_X5_here S M11 x0) fun ⟨v14, M15⟩ => (if v14 = (45 : Int32) then (fb_X5_readSum_29 S (fb_X5_readSum_4 S t) M15 x0) else some M15))))
theorem b_X5_readSum_4 {M' : mMm} (X : mCx D n0 P p m c cX5_readSum 2 s args yX5_readSum.cls meth none) : ∀ t : Nat, ∀ (M : mMm) (x0 : Nat) (H : Heap) (locs : List Loc) (ls : Array Slot), mHp D n0 S M n s H locs → lv_has ls 2 [(0, .ref x0)] → fb_X5_readSum_4 S t M x0 = some M' → W p l e Rm_X5_readSum s m args below meth c H locs 0 0 (MQ below (mQ D n0 none S M' n) args s 0 0 (mA n0)) (F0 m 4 ls []) := by
  have hx := X.1.1
  have hb := X.1.2.1
  have hown := X.1.2.2.2.1
  have hts := X.1.2.2.2.2
  intro t
  induction t with
  | zero =>
    intro M x0 H locs ls hp hl hF
    have hF : none = some M' := hF
    cases hF
  | succ t ih =>
    intro M x0 H locs ls hp hl hF
    rw [fb_X5_readSum_4] at hF
    refine lv_aload_n hx hb dX5_readSum_4 rfl (lv_at hl 0 rfl) ?_
    obtain ⟨g5, hF⟩ := gd_s hF
    obtain ⟨v7, e6, hF⟩ := ob_s hF
    refine m_callV (As := []) (rest := []) X hp (w_X5_fine e6) q1598 q1600 qs64 q144 q1601 0 rfl ds_X5_fine ⟨Nat.le_of_ble_eq_true rfl, Nat.le_of_ble_eq_true rfl⟩ 6 (T := TX5) (N := 40) rfl (by decide) g5 hl.1 rfl (Nat.le_of_ble_eq_true rfl) dX5_readSum_5 ⟨Nat.le_refl 0, Nat.le_refl 0⟩ (fun H locs hp => ?_)
    refine lv_if_eq (tgt := 67) hx hb dX5_readSum_8 (by decide) (fun c8 => ?_) (fun c8 => ?_)
    · have hF := if_p c8 hF
      cases hF
      exact m_vret X hp dX5_readSum_67
    · have hF := if_n c8 hF
      refine lv_aload_n hx hb dX5_readSum_11 rfl (lv_at hl 0 rfl) ?_
      obtain ⟨⟨v10, M11⟩, e9, hF⟩ := ob_s hF
      refine m_callV (As := []) (rest := []) X hp (w_X5_here e9) q1602 q1604 qs65 q144 q1605 0 rfl ds_X5_here ⟨Nat.le_of_ble_eq_true rfl, Nat.le_of_ble_eq_true rfl⟩ 6 (T := TX5) (N := 40) rfl (by decide) g5 hl.1 rfl (Nat.le_of_ble_eq_true rfl) dX5_readSum_12 ⟨Nat.le_refl 0, Nat.le_refl 0⟩ (fun H locs hp => ?_)
      refine lv_bipush (v := 43) hx hb dX5_readSum_15 (by decide) ?_
      refine lv_icmp_eq (tgt := 29) hx hb dX5_readSum_17 (by decide) (fun c12 => ?_) (fun c12 => ?_)
      · have hF := if_p c12 hF
        exact b_X5_readSum_29 X _ ih _ _ _ _ _ hp (lv_sub hl [0] rfl) hF
      · have hF := if_n c12 hF
        refine lv_aload_n hx hb dX5_readSum_20 rfl (lv_at hl 0 rfl) ?_
        obtain ⟨⟨v14, M15⟩, e13, hF⟩ := ob_s hF
        refine m_callV (As := []) (rest := []) X hp (w_X5_here e13) q1602 q1604 qs65 q144 q1605 0 rfl ds_X5_here ⟨Nat.le_of_ble_eq_true rfl, Nat.le_of_ble_eq_true rfl⟩ 6 (T := TX5) (N := 40) rfl (by decide) g5 hl.1 rfl (Nat.le_of_ble_eq_true rfl) dX5_readSum_21 ⟨Nat.le_refl 0, Nat.le_refl 0⟩ (fun H locs hp => ?_)
        refine lv_bipush (v := 45) hx hb dX5_readSum_24 (by decide) ?_
        refine lv_icmp_ne (tgt := 67) hx hb dX5_readSum_26 (by decide) (fun c16 => ?_) (fun c16 => ?_)
        · have hF := if_n c16 hF
          cases hF
          exact m_vret X hp dX5_readSum_67
        · have hF := if_p c16 hF
          exact b_X5_readSum_29 X _ ih _ _ _ _ _ hp (lv_sub hl [0] rfl) hF
def f_X5_readSum (S : mSh) (M : mMm) (x0 : Nat) : Option mMm := gd ((S x0).1 = 6) (ob (f_X5_readPart S M x0) fun M4 => (fb_X5_readSum_4 S FU M4 x0))
theorem w_X5_readSum {x0 : Nat} {M' : mMm} (hF : f_X5_readSum S M x0 = some M') : mCt l D n0 P yX5_readSum cX5_readSum 2 none 5 109 0 0 [.ref x0] S M n none S M' n := by
  refine m_ofW (by decide) (Nat.le_of_ble_eq_true rfl) (fun p e s m below meth c X hnm hp ls hl => ?_)
  have hx := X.1.1
  have hb := X.1.2.1
  have hown := X.1.2.2.2.1
  have hts := X.1.2.2.2.2
  have hl : lv_has ls 2 [(0, .ref x0)] := hl
  unfold f_X5_readSum at hF
  refine lv_aload_n hx hb dX5_readSum_0 rfl (lv_at hl 0 rfl) ?_
  obtain ⟨g1, hF⟩ := gd_s hF
  obtain ⟨M4, e2, hF⟩ := ob_s hF
  refine m_callV (As := []) (rest := []) X hp (w_X5_readPart e2) q1639 q1641 qs72 q144 q1642 0 rfl ds_X5_readPart ⟨Nat.le_of_ble_eq_true rfl, Nat.le_of_ble_eq_true rfl⟩ 6 (T := TX5) (N := 40) rfl (by decide) g1 hl.1 rfl (Nat.le_of_ble_eq_true rfl) dX5_readSum_1 ⟨Nat.le_refl 0, Nat.le_refl 0⟩ (fun H locs hp => ?_)
  exact b_X5_readSum_4 X _ _ _ _ _ _ hp (lv_sub hl [0] rfl) hF
end
section
variable {l : Launch} {D : va_G} {n0 : Nat} {P : mP} {S : mSh} {M : mMm} {n : Nat} {p : Program} {e : Env} {s : State} {m : MethodId} {args : Array Value} {below : List Frame} {meth : Method} {c : Code}
abbrev Rm_X5_readTwo : Room := { frames := 6, cells := 0, slots := 0, locals := 130 }
def fb_X5_readTwo_100 (S : mSh) (M : mMm) (y0 : Int32) (y1 : Nat) : Option mMm := gd ((S y1).1 = 6) (ob (f_X5_codes S M y1 y0 (0 : Int32)) fun M40 => some M40)
theorem b_X5_readTwo_100 {M' : mMm} (X : mCx D n0 P p m c cX5_readTwo 2 s args yX5_readTwo.cls meth none) : ∀ (M : mMm) (y0 : Int32) (y1 : Nat) (H : Heap) (locs : List Loc) (ls : Array Slot), mHp D n0 S M n s H locs → lv_has ls 2 [] → fb_X5_readTwo_100 S M y0 y1 = some M' → W p l e Rm_X5_readTwo s m args below meth c H locs 0 0 (MQ below (mQ D n0 none S M' n) args s 0 0 (mA n0)) (F0 m 100 ls [.int y0, .ref y1]) := by
  have hx := X.1.1
  have hb := X.1.2.1
  have hown := X.1.2.2.2.1
  have hts := X.1.2.2.2.2
  intro M y0 y1 H locs ls hp hl hF
  unfold fb_X5_readTwo_100 at hF
  refine lv_iconst (v := 0) hx hb dX5_readTwo_100 (by decide) ?_
  obtain ⟨g37, hF⟩ := gd_s hF
  obtain ⟨M40, e38, hF⟩ := ob_s hF
  refine m_callV (As := [.int y0, .int (0 : Int32)]) (rest := []) X hp (w_X5_codes e38) q1654 q1656 qs75 q144 q1657 2 rfl ds_X5_codes ⟨Nat.le_of_ble_eq_true rfl, Nat.le_of_ble_eq_true rfl⟩ 6 (T := TX5) (N := 40) rfl (by decide) g37 hl.1 rfl (Nat.le_of_ble_eq_true rfl) dX5_readTwo_101 ⟨Nat.le_refl 0, Nat.le_refl 0⟩ (fun H locs hp => ?_)
  cases hF
  exact m_vret X hp dX5_readTwo_104
def fb_X5_readTwo_71 (S : mSh) (M : mMm) (x0 : Nat) (x1 : Int32) : Option mMm := gd ((S x0).1 = 6) (ob (f_X5_readSum S M x0) fun M34 => (if x1 = (60 : Int32) then (fb_X5_readTwo_100 S M34  (6 : Int32) x0) else (if x1 = (61 : Int32) then (fb_X5_readTwo_100 S M34  (7 : Int32) x0) else (fb_X5_readTwo_100 S M34  (8 : Int32) x0))))
theorem b_X5_readTwo_71 {M' : mMm} (X : mCx D n0 P p m c cX5_readTwo 2 s args yX5_readTwo.cls meth none) : ∀ (M : mMm) (x0 : Nat) (x1 : Int32) (H : Heap) (locs : List Loc) (ls : Array Slot), mHp D n0 S M n s H locs → lv_has ls 2 [(0, .ref x0), (1, .int x1)] → fb_X5_readTwo_71 S M x0 x1 = some M' → W p l e Rm_X5_readTwo s m args below meth c H locs 0 0 (MQ below (mQ D n0 none S M' n) args s 0 0 (mA n0)) (F0 m 71 ls []) := by
  have hx := X.1.1
  have hb := X.1.2.1
  have hown := X.1.2.2.2.1
  have hts := X.1.2.2.2.2
  intro M x0 x1 H locs ls hp hl hF
  unfold fb_X5_readTwo_71 at hF
  refine lv_aload_n hx hb dX5_readTwo_71 rfl (lv_at hl 0 rfl) ?_
  obtain ⟨g31, hF⟩ := gd_s hF
  obtain ⟨M34, e32, hF⟩ := ob_s hF
  refine m_callV (As := []) (rest := []) X hp (w_X5_readSum e32) q1635 q1637 qs71 q144 q1638 0 rfl ds_X5_readSum ⟨Nat.le_of_ble_eq_true rfl, Nat.le_of_ble_eq_true rfl⟩ 6 (T := TX5) (N := 40) rfl (by decide) g31 hl.1 rfl (Nat.le_of_ble_eq_true rfl) dX5_readTwo_72 ⟨Nat.le_refl 0, Nat.le_refl 0⟩ (fun H locs hp => ?_)
  refine lv_aload_n hx hb dX5_readTwo_75 rfl (lv_at hl 0 rfl) ?_
  refine lv_iload_n hx hb dX5_readTwo_76 rfl (lv_at hl 1 rfl) ?_
  refine lv_bipush (v := 60) hx hb dX5_readTwo_77 (by decide) ?_
  refine lv_icmp_ne (tgt := 87) hx hb dX5_readTwo_79 (by decide) (fun c35 => ?_) (fun c35 => ?_)
  · have hF := if_n c35 hF
    refine lv_iload_n hx hb dX5_readTwo_87 rfl (lv_at hl 1 rfl) ?_
    refine lv_bipush (v := 61) hx hb dX5_readTwo_88 (by decide) ?_
    refine lv_icmp_ne (tgt := 98) hx hb dX5_readTwo_90 (by decide) (fun c36 => ?_) (fun c36 => ?_)
    · have hF := if_n c36 hF
      refine lv_bipush (v := 8) hx hb dX5_readTwo_98 (by decide) ?_
      exact b_X5_readTwo_100 X _  _ _ _ _ _ hp (lv_sub hl [] rfl) hF
    · have hF := if_p c36 hF
      refine lv_bipush (v := 7) hx hb dX5_readTwo_93 (by decide) ?_
      refine lv_goto (tgt := 100) hx hb dX5_readTwo_95 (by decide) ?_
      exact b_X5_readTwo_100 X _  _ _ _ _ _ hp (lv_sub hl [] rfl) hF
  · have hF := if_p c35 hF
    refine lv_bipush (v := 6) hx hb dX5_readTwo_82 (by decide) ?_
    refine lv_goto (tgt := 100) hx hb dX5_readTwo_84 (by decide) ?_
    exact b_X5_readTwo_100 X _  _ _ _ _ _ hp (lv_sub hl [] rfl) hF
def fb_X5_readTwo_54 (S : mSh) (M : mMm) (x0 : Nat) (x1 : Int32) : Option mMm := gd ((S x0).1 = 6) (ob (f_X5_fine S M x0) fun v25 => (if v25 = 0 then (fb_X5_readTwo_71 S M x0 x1) else ob (rI S M x0 6 9) fun v27 => ob (wF S M x0 6 9 (.int (v27 + (1 : Int32)))) fun M29 => (fb_X5_readTwo_71 S M29 x0 x1)))
theorem b_X5_readTwo_54 {M' : mMm} (X : mCx D n0 P p m c cX5_readTwo 2 s args yX5_readTwo.cls meth none) : ∀ (M : mMm) (x0 : Nat) (x1 : Int32) (H : Heap) (locs : List Loc) (ls : Array Slot), mHp D n0 S M n s H locs → lv_has ls 2 [(0, .ref x0), (1, .int x1)] → fb_X5_readTwo_54 S M x0 x1 = some M' → W p l e Rm_X5_readTwo s m args below meth c H locs 0 0 (MQ below (mQ D n0 none S M' n) args s 0 0 (mA n0)) (F0 m 54 ls []) := by
  have hx := X.1.1
  have hb := X.1.2.1
  have hown := X.1.2.2.2.1
  have hts := X.1.2.2.2.2
  intro M x0 x1 H locs ls hp hl hF
  unfold fb_X5_readTwo_54 at hF
  refine lv_aload_n hx hb dX5_readTwo_54 rfl (lv_at hl 0 rfl) ?_
  obtain ⟨g23, hF⟩ := gd_s hF
  obtain ⟨v25, e24, hF⟩ := ob_s hF
  refine m_callV (As := []) (rest := []) X hp (w_X5_fine e24) q1598 q1600 qs64 q144 q1601 0 rfl ds_X5_fine ⟨Nat.le_of_ble_eq_true rfl, Nat.le_of_ble_eq_true rfl⟩ 6 (T := TX5) (N := 40) rfl (by decide) g23 hl.1 rfl (Nat.le_of_ble_eq_true rfl) dX5_readTwo_55 ⟨Nat.le_refl 0, Nat.le_refl 0⟩ (fun H locs hp => ?_)
  refine lv_if_eq (tgt := 71) hx hb dX5_readTwo_58 (by decide) (fun c26 => ?_) (fun c26 => ?_)
  · have hF := if_p c26 hF
    exact b_X5_readTwo_71 X _ _ _ _ _ _ hp (lv_sub hl [0, 1] rfl) hF
  · have hF := if_n c26 hF
    refine lv_aload_n hx hb dX5_readTwo_61 rfl (lv_at hl 0 rfl) ?_
    refine lv_dup hx hb dX5_readTwo_62 rfl ?_
    obtain ⟨v27, e28, hF⟩ := ob_s hF
    refine m_getI X hp e28 kX5 (Nat.le_of_ble_eq_true rfl) q1468 dX5_readTwo_63 ?_
    refine lv_iconst (v := 1) hx hb dX5_readTwo_66 (by decide) ?_
    refine lv_iadd hx hb dX5_readTwo_67 ?_
    obtain ⟨M29, e30, hF⟩ := ob_s hF
    refine m_putW X hp e30 kX5 (Nat.le_of_ble_eq_true rfl) q1468 rfl rfl rfl dX5_readTwo_68 (fun H locs hp => ?_)
    exact b_X5_readTwo_71 X _ _ _ _ _ _ hp (lv_sub hl [0, 1] rfl) hF
def fb_X5_readTwo_19 (S : mSh) (M : mMm) (x0 : Nat) (y0 : Int32) : Option mMm := gd ((S x0).1 = 6) (ob (f_X5_fine S M x0) fun v13 => (if v13 = 0 then (fb_X5_readTwo_54 S M x0 y0) else (if y0 = (60 : Int32) then (fb_X5_readTwo_54 S M x0 y0) else (if y0 = (61 : Int32) then (fb_X5_readTwo_54 S M x0 y0) else (if y0 = (62 : Int32) then (fb_X5_readTwo_54 S M x0 y0) else ob (rI S M x0 6 9) fun v18 => ob (f_X5_wrong S M x0 (1 : Int32) v18) fun M22 => (fb_X5_readTwo_54 S M22 x0 y0))))))
theorem b_X5_readTwo_19 {M' : mMm} (X : mCx D n0 P p m c cX5_readTwo 2 s args yX5_readTwo.cls meth none) : ∀ (M : mMm) (x0 : Nat) (y0 : Int32) (H : Heap) (locs : List Loc) (ls : Array Slot), mHp D n0 S M n s H locs → lv_has ls 2 [(0, .ref x0)] → fb_X5_readTwo_19 S M x0 y0 = some M' → W p l e Rm_X5_readTwo s m args below meth c H locs 0 0 (MQ below (mQ D n0 none S M' n) args s 0 0 (mA n0)) (F0 m 19 ls [.int y0]) := by
  have hx := X.1.1
  have hb := X.1.2.1
  have hown := X.1.2.2.2.1
  have hts := X.1.2.2.2.2
  intro M x0 y0 H locs ls hp hl hF
  unfold fb_X5_readTwo_19 at hF
  refine lv_istore_n (lv' := [(1, .int y0), (0, .ref x0)]) hx hb dX5_readTwo_19 rfl hl (by decide) rfl (fun ls hl => ?_)
  refine lv_aload_n hx hb dX5_readTwo_20 rfl (lv_at hl 1 rfl) ?_
  obtain ⟨g11, hF⟩ := gd_s hF
  obtain ⟨v13, e12, hF⟩ := ob_s hF
  refine m_callV (As := []) (rest := []) X hp (w_X5_fine e12) q1598 q1600 qs64 q144 q1601 0 rfl ds_X5_fine ⟨Nat.le_of_ble_eq_true rfl, Nat.le_of_ble_eq_true rfl⟩ 6 (T := TX5) (N := 40) rfl (by decide) g11 hl.1 rfl (Nat.le_of_ble_eq_true rfl) dX5_readTwo_21 ⟨Nat.le_refl 0, Nat.le_refl 0⟩ (fun H locs hp => ?_)
  refine lv_if_eq (tgt := 54) hx hb dX5_readTwo_24 (by decide) (fun c14 => ?_) (fun c14 => ?_)
  · have hF := if_p c14 hF
    exact b_X5_readTwo_54 X _ _ _ _ _ _ hp (lv_sub hl [1, 0] rfl) hF
  · have hF := if_n c14 hF
    refine lv_iload_n hx hb dX5_readTwo_27 rfl (lv_at hl 0 rfl) ?_
    refine lv_bipush (v := 60) hx hb dX5_readTwo_28 (by decide) ?_
    refine lv_icmp_eq (tgt := 54) hx hb dX5_readTwo_30 (by decide) (fun c15 => ?_) (fun c15 => ?_)
    · have hF := if_p c15 hF
      exact b_X5_readTwo_54 X _ _ _ _ _ _ hp (lv_sub hl [1, 0] rfl) hF
    · have hF := if_n c15 hF
      refine lv_iload_n hx hb dX5_readTwo_33 rfl (lv_at hl 0 rfl) ?_
      refine lv_bipush (v := 61) hx hb dX5_readTwo_34 (by decide) ?_
      refine lv_icmp_eq (tgt := 54) hx hb dX5_readTwo_36 (by decide) (fun c16 => ?_) (fun c16 => ?_)
      · have hF := if_p c16 hF
        exact b_X5_readTwo_54 X _ _ _ _ _ _ hp (lv_sub hl [1, 0] rfl) hF
      · have hF := if_n c16 hF
        refine lv_iload_n hx hb dX5_readTwo_39 rfl (lv_at hl 0 rfl) ?_
        refine lv_bipush (v := 62) hx hb dX5_readTwo_40 (by decide) ?_
        refine lv_icmp_eq (tgt := 54) hx hb dX5_readTwo_42 (by decide) (fun c17 => ?_) (fun c17 => ?_)
        · have hF := if_p c17 hF
          exact b_X5_readTwo_54 X _ _ _ _ _ _ hp (lv_sub hl [1, 0] rfl) hF
        · have hF := if_n c17 hF
          refine lv_aload_n hx hb dX5_readTwo_45 rfl (lv_at hl 1 rfl) ?_
          refine lv_iconst (v := 1) hx hb dX5_readTwo_46 (by decide) ?_
          refine lv_aload_n hx hb dX5_readTwo_47 rfl (lv_at hl 1 rfl) ?_
          obtain ⟨v18, e19, hF⟩ := ob_s hF
          refine m_getI X hp e19 kX5 (Nat.le_of_ble_eq_true rfl) q1468 dX5_readTwo_48 ?_
          obtain ⟨M22, e20, hF⟩ := ob_s hF
          refine m_callV (As := [.int (1 : Int32), .int v18]) (rest := []) X hp (w_X5_wrong e20) q1627 q1629 qs69 q144 q1630 2 rfl ds_X5_wrong ⟨Nat.le_of_ble_eq_true rfl, Nat.le_of_ble_eq_true rfl⟩ 6 (T := TX5) (N := 40) rfl (by decide) (rI_s e19).1 hl.1 rfl (Nat.le_of_ble_eq_true rfl) dX5_readTwo_51 ⟨Nat.le_refl 0, Nat.le_refl 0⟩ (fun H locs hp => ?_)
          exact b_X5_readTwo_54 X _ _ _ _ _ _ hp (lv_sub hl [1, 0] rfl) hF
def f_X5_readTwo (S : mSh) (M : mMm) (x0 : Nat) : Option mMm := gd ((S x0).1 = 6) (ob (f_X5_readSum S M x0) fun M4 => ob (f_X5_fine S M4 x0) fun v6 => (if v6 = 0 then (fb_X5_readTwo_19 S M4 x0 (0 : Int32)) else ob (f_X5_here S M4 x0) fun ⟨v9, M10⟩ => (fb_X5_readTwo_19 S M10 x0 v9)))
theorem w_X5_readTwo {x0 : Nat} {M' : mMm} (hF : f_X5_readTwo S M x0 = some M') : mCt l D n0 P yX5_readTwo cX5_readTwo 2 none 6 130 0 0 [.ref x0] S M n none S M' n := by
  refine m_ofW (by decide) (Nat.le_of_ble_eq_true rfl) (fun p e s m below meth c X hnm hp ls hl => ?_)
  have hx := X.1.1
  have hb := X.1.2.1
  have hown := X.1.2.2.2.1
  have hts := X.1.2.2.2.2
  have hl : lv_has ls 2 [(0, .ref x0)] := hl
  unfold f_X5_readTwo at hF
  refine lv_aload_n hx hb dX5_readTwo_0 rfl (lv_at hl 0 rfl) ?_
  obtain ⟨g1, hF⟩ := gd_s hF
  obtain ⟨M4, e2, hF⟩ := ob_s hF
  refine m_callV (As := []) (rest := []) X hp (w_X5_readSum e2) q1635 q1637 qs71 q144 q1638 0 rfl ds_X5_readSum ⟨Nat.le_of_ble_eq_true rfl, Nat.le_of_ble_eq_true rfl⟩ 6 (T := TX5) (N := 40) rfl (by decide) g1 hl.1 rfl (Nat.le_of_ble_eq_true rfl) dX5_readTwo_1 ⟨Nat.le_refl 0, Nat.le_refl 0⟩ (fun H locs hp => ?_)
  refine lv_aload_n hx hb dX5_readTwo_4 rfl (lv_at hl 0 rfl) ?_
  obtain ⟨v6, e5, hF⟩ := ob_s hF
  refine m_callV (As := []) (rest := []) X hp (w_X5_fine e5) q1598 q1600 qs64 q144 q1601 0 rfl ds_X5_fine ⟨Nat.le_of_ble_eq_true rfl, Nat.le_of_ble_eq_true rfl⟩ 6 (T := TX5) (N := 40) rfl (by decide) g1 hl.1 rfl (Nat.le_of_ble_eq_true rfl) dX5_readTwo_5 ⟨Nat.le_refl 0, Nat.le_refl 0⟩ (fun H locs hp => ?_)
  refine lv_if_eq (tgt := 18) hx hb dX5_readTwo_8 (by decide) (fun c7 => ?_) (fun c7 => ?_)
  · have hF := if_p c7 hF
    refine lv_iconst (v := 0) hx hb dX5_readTwo_18 (by decide) ?_
    exact b_X5_readTwo_19 X _ _ _ _ _ _ hp (lv_sub hl [0] rfl) hF
  · have hF := if_n c7 hF
    refine lv_aload_n hx hb dX5_readTwo_11 rfl (lv_at hl 0 rfl) ?_
    obtain ⟨⟨v9, M10⟩, e8, hF⟩ := ob_s hF
    refine m_callV (As := []) (rest := []) X hp (w_X5_here e8) q1602 q1604 qs65 q144 q1605 0 rfl ds_X5_here ⟨Nat.le_of_ble_eq_true rfl, Nat.le_of_ble_eq_true rfl⟩ 6 (T := TX5) (N := 40) rfl (by decide) g1 hl.1 rfl (Nat.le_of_ble_eq_true rfl) dX5_readTwo_12 ⟨Nat.le_refl 0, Nat.le_refl 0⟩ (fun H locs hp => ?_)
    refine lv_goto (tgt := 19) hx hb dX5_readTwo_15 (by decide) ?_
    exact b_X5_readTwo_19 X _ _ _ _ _ _ hp (lv_sub hl [0] rfl) hF
end
section
variable {l : Launch} {D : va_G} {n0 : Nat} {P : mP} {S : mSh} {M : mMm} {n : Nat} {p : Program} {e : Env} {s : State} {m : MethodId} {args : Array Value} {below : List Frame} {meth : Method} {c : Code}
abbrev Rm_X5_readEither : Room := { frames := 7, cells := 0, slots := 0, locals := 151 }
def fb_X5_readEither_109 (S : mSh) (k46 : mMm → Nat → Int32 → Option mMm) (M : mMm) (x0 : Nat) (y0 : Int32) : Option mMm := (k46 M x0 y0)
theorem b_X5_readEither_109 {M' : mMm} (X : mCx D n0 P p m c cX5_readEither 2 s args yX5_readEither.cls meth none) (k46 : mMm → Nat → Int32 → Option mMm) (hk46 : ∀ (M : mMm) (x0 : Nat) (x1 : Int32) (H : Heap) (locs : List Loc) (ls : Array Slot), mHp D n0 S M n s H locs → lv_has ls 2 [(0, .ref x0), (1, .int x1)] → k46 M x0 x1 = some M' → W p l e Rm_X5_readEither s m args below meth c H locs 0 0 (MQ below (mQ D n0 none S M' n) args s 0 0 (mA n0)) (F0 m 46 ls [])) : ∀ (M : mMm) (x0 : Nat) (y0 : Int32) (H : Heap) (locs : List Loc) (ls : Array Slot), mHp D n0 S M n s H locs → lv_has ls 2 [(0, .ref x0)] → fb_X5_readEither_109 S k46 M x0 y0 = some M' → W p l e Rm_X5_readEither s m args below meth c H locs 0 0 (MQ below (mQ D n0 none S M' n) args s 0 0 (mA n0)) (F0 m 109 ls [.int y0]) := by
  have hx := X.1.1
  have hb := X.1.2.1
  have hown := X.1.2.2.2.1
  have hts := X.1.2.2.2.2
  intro M x0 y0 H locs ls hp hl hF
  unfold fb_X5_readEither_109 at hF
  refine lv_istore_n (lv' := [(1, .int y0), (0, .ref x0)]) hx hb dX5_readEither_109 rfl hl (by decide) rfl (fun ls hl => ?_)
  refine lv_goto (tgt := 46) hx hb dX5_readEither_110 (by decide) ?_
  exact hk46 _ _ _ _ _ _ hp (lv_sub hl [1, 0] rfl) hF
def fb_X5_readEither_46 (S : mSh) (k7 : mMm → Nat → Int32 → Option mMm) : Nat → mMm → Nat → Int32 → Option mMm
  | 0, _, _, _ => none
  | t + 1, M, x0, x1 => (if x1 = 0 then gd ((S x0).1 = 6) (ob (f_X5_fine S M x0) fun v26 => (if v26 = 0 then (k7 M x0 x1) else ob (rI S M x0 6 19) fun v28 => (if v28 ≤ 0 then (k7 M x0 x1) else ob (f_X5_sign S M x0 (41 : Int32)) fun M33 => ob (rI S M33 x0 6 19) fun v34 => ob (wF S M33 x0 6 19 (.int (v34 - (1 : Int32)))) fun M36 => ob (rI S M36 x0 6 12) fun v38 => ob (wF S M36 x0 6 12 (.int (v38 - (1 : Int32)))) fun M40 => ob (f_X5_fine S M40 x0) fun v43 => (if v43 = 0 then (fb_X5_readEither_109 S (fb_X5_readEither_46 S k7 t) M40 x0 (0 : Int32)) else ob (f_X5_goesOnWith S M40 x0) fun ⟨v46, M47⟩ => (if v46 = 0 then (fb_X5_readEither_109 S (fb_X5_readEither_46 S k7 t) M47 x0 (0 : Int32)) else (fb_X5_readEither_109 S (fb_X5_readEither_46 S k7 t) M47 x0 (1 : Int32))))))) else (k7 M x0 x1))
theorem b_X5_readEither_46 {M' : mMm} (X : mCx D n0 P p m c cX5_readEither 2 s args yX5_readEither.cls meth none) (k7 : mMm → Nat → Int32 → Option mMm) (hk7 : ∀ (M : mMm) (x0 : Nat) (x1 : Int32) (H : Heap) (locs : List Loc) (ls : Array Slot), mHp D n0 S M n s H locs → lv_has ls 2 [(0, .ref x0), (1, .int x1)] → k7 M x0 x1 = some M' → W p l e Rm_X5_readEither s m args below meth c H locs 0 0 (MQ below (mQ D n0 none S M' n) args s 0 0 (mA n0)) (F0 m 7 ls [])) : ∀ t : Nat, ∀ (M : mMm) (x0 : Nat) (x1 : Int32) (H : Heap) (locs : List Loc) (ls : Array Slot), mHp D n0 S M n s H locs → lv_has ls 2 [(0, .ref x0), (1, .int x1)] → fb_X5_readEither_46 S k7 t M x0 x1 = some M' → W p l e Rm_X5_readEither s m args below meth c H locs 0 0 (MQ below (mQ D n0 none S M' n) args s 0 0 (mA n0)) (F0 m 46 ls []) := by
  have hx := X.1.1
  have hb := X.1.2.1
  have hown := X.1.2.2.2.1
  have hts := X.1.2.2.2.2
  intro t
  induction t with
  | zero =>
    intro M x0 x1 H locs ls hp hl hF
    have hF : none = some M' := hF
    cases hF
  | succ t ih =>
    intro M x0 x1 H locs ls hp hl hF
    rw [fb_X5_readEither_46] at hF
    refine lv_iload_n hx hb dX5_readEither_46 rfl (lv_at hl 1 rfl) ?_
    refine lv_if_ne (tgt := 7) hx hb dX5_readEither_47 (by decide) (fun c23 => ?_) (fun c23 => ?_)
    · have hF := if_n c23 hF
      exact hk7 _ _ _ _ _ _ hp (lv_sub hl [0, 1] rfl) hF
    · have hF := if_p c23 hF
      refine lv_aload_n hx hb dX5_readEither_50 rfl (lv_at hl 0 rfl) ?_
      obtain ⟨g24, hF⟩ := gd_s hF
      obtain ⟨v26, e25, hF⟩ := ob_s hF
      refine m_callV (As := []) (rest := []) X hp (w_X5_fine e25) q1598 q1600 qs64 q144 q1601 0 rfl ds_X5_fine ⟨Nat.le_of_ble_eq_true rfl, Nat.le_of_ble_eq_true rfl⟩ 6 (T := TX5) (N := 40) rfl (by decide) g24 hl.1 rfl (Nat.le_of_ble_eq_true rfl) dX5_readEither_51 ⟨Nat.le_refl 0, Nat.le_refl 0⟩ (fun H locs hp => ?_)
      refine lv_if_eq (tgt := 7) hx hb dX5_readEither_54 (by decide) (fun c27 => ?_) (fun c27 => ?_)
      · have hF := if_p c27 hF
        exact hk7 _ _ _ _ _ _ hp (lv_sub hl [0, 1] rfl) hF
      · have hF := if_n c27 hF
        refine lv_aload_n hx hb dX5_readEither_57 rfl (lv_at hl 0 rfl) ?_
        obtain ⟨v28, e29, hF⟩ := ob_s hF
        refine m_getI X hp e29 kX5 (Nat.le_of_ble_eq_true rfl) q1478 dX5_readEither_58 ?_
        refine lv_if_le (tgt := 7) hx hb dX5_readEither_61 (by decide) (fun c30 => ?_) (fun c30 => ?_)
        · have hF := if_p c30 hF
          exact hk7 _ _ _ _ _ _ hp (lv_sub hl [0, 1] rfl) hF
        · have hF := if_n c30 hF
          refine lv_aload_n hx hb dX5_readEither_64 rfl (lv_at hl 0 rfl) ?_
          refine lv_bipush (v := 41) hx hb dX5_readEither_65 (by decide) ?_
          obtain ⟨M33, e31, hF⟩ := ob_s hF
          refine m_callV (As := [.int (41 : Int32)]) (rest := []) X hp (w_X5_sign e31) q1673 q1675 qs79 q144 q1676 1 rfl ds_X5_sign ⟨Nat.le_of_ble_eq_true rfl, Nat.le_of_ble_eq_true rfl⟩ 6 (T := TX5) (N := 40) rfl (by decide) (rI_s e29).1 hl.1 rfl (Nat.le_of_ble_eq_true rfl) dX5_readEither_67 ⟨Nat.le_refl 0, Nat.le_refl 0⟩ (fun H locs hp => ?_)
          refine lv_aload_n hx hb dX5_readEither_70 rfl (lv_at hl 0 rfl) ?_
          refine lv_dup hx hb dX5_readEither_71 rfl ?_
          obtain ⟨v34, e35, hF⟩ := ob_s hF
          refine m_getI X hp e35 kX5 (Nat.le_of_ble_eq_true rfl) q1478 dX5_readEither_72 ?_
          refine lv_iconst (v := 1) hx hb dX5_readEither_75 (by decide) ?_
          refine lv_isub hx hb dX5_readEither_76 ?_
          obtain ⟨M36, e37, hF⟩ := ob_s hF
          refine m_putW X hp e37 kX5 (Nat.le_of_ble_eq_true rfl) q1478 rfl rfl rfl dX5_readEither_77 (fun H locs hp => ?_)
          refine lv_aload_n hx hb dX5_readEither_80 rfl (lv_at hl 0 rfl) ?_
          refine lv_dup hx hb dX5_readEither_81 rfl ?_
          obtain ⟨v38, e39, hF⟩ := ob_s hF
          refine m_getI X hp e39 kX5 (Nat.le_of_ble_eq_true rfl) q1471 dX5_readEither_82 ?_
          refine lv_iconst (v := 1) hx hb dX5_readEither_85 (by decide) ?_
          refine lv_isub hx hb dX5_readEither_86 ?_
          obtain ⟨M40, e41, hF⟩ := ob_s hF
          refine m_putW X hp e41 kX5 (Nat.le_of_ble_eq_true rfl) q1471 rfl rfl rfl dX5_readEither_87 (fun H locs hp => ?_)
          refine lv_aload_n hx hb dX5_readEither_90 rfl (lv_at hl 0 rfl) ?_
          obtain ⟨v43, e42, hF⟩ := ob_s hF
          refine m_callV (As := []) (rest := []) X hp (w_X5_fine e42) q1598 q1600 qs64 q144 q1601 0 rfl ds_X5_fine ⟨Nat.le_of_ble_eq_true rfl, Nat.le_of_ble_eq_true rfl⟩ 6 (T := TX5) (N := 40) rfl (by decide) (wF_s e41).1 hl.1 rfl (Nat.le_of_ble_eq_true rfl) dX5_readEither_91 ⟨Nat.le_refl 0, Nat.le_refl 0⟩ (fun H locs hp => ?_)
          refine lv_if_eq (tgt := 108) hx hb dX5_readEither_94 (by decide) (fun c44 => ?_) (fun c44 => ?_)
          · have hF := if_p c44 hF
            refine lv_iconst (v := 0) hx hb dX5_readEither_108 (by decide) ?_
            exact b_X5_readEither_109 X _ ih _ _ _ _ _ _ hp (lv_sub hl [0] rfl) hF
          · have hF := if_n c44 hF
            refine lv_aload_n hx hb dX5_readEither_97 rfl (lv_at hl 0 rfl) ?_
            obtain ⟨⟨v46, M47⟩, e45, hF⟩ := ob_s hF
            refine m_callV (As := []) (rest := []) X hp (w_X5_goesOnWith e45) q1681 q1683 qs81 q144 q1684 0 rfl ds_X5_goesOnWith ⟨Nat.le_of_ble_eq_true rfl, Nat.le_of_ble_eq_true rfl⟩ 6 (T := TX5) (N := 40) rfl (by decide) (wF_s e41).1 hl.1 rfl (Nat.le_of_ble_eq_true rfl) dX5_readEither_98 ⟨Nat.le_refl 0, Nat.le_refl 0⟩ (fun H locs hp => ?_)
            refine lv_if_eq (tgt := 108) hx hb dX5_readEither_101 (by decide) (fun c48 => ?_) (fun c48 => ?_)
            · have hF := if_p c48 hF
              refine lv_iconst (v := 0) hx hb dX5_readEither_108 (by decide) ?_
              exact b_X5_readEither_109 X _ ih _ _ _ _ _ _ hp (lv_sub hl [0] rfl) hF
            · have hF := if_n c48 hF
              refine lv_iconst (v := 1) hx hb dX5_readEither_104 (by decide) ?_
              refine lv_goto (tgt := 109) hx hb dX5_readEither_105 (by decide) ?_
              exact b_X5_readEither_109 X _ ih _ _ _ _ _ _ hp (lv_sub hl [0] rfl) hF
def fb_X5_readEither_45 (S : mSh) (k7 : mMm → Nat → Int32 → Option mMm) (M : mMm) (x0 : Nat) (y0 : Int32) : Option mMm := (fb_X5_readEither_46 S k7 FU M x0 y0)
theorem b_X5_readEither_45 {M' : mMm} (X : mCx D n0 P p m c cX5_readEither 2 s args yX5_readEither.cls meth none) (k7 : mMm → Nat → Int32 → Option mMm) (hk7 : ∀ (M : mMm) (x0 : Nat) (x1 : Int32) (H : Heap) (locs : List Loc) (ls : Array Slot), mHp D n0 S M n s H locs → lv_has ls 2 [(0, .ref x0), (1, .int x1)] → k7 M x0 x1 = some M' → W p l e Rm_X5_readEither s m args below meth c H locs 0 0 (MQ below (mQ D n0 none S M' n) args s 0 0 (mA n0)) (F0 m 7 ls [])) : ∀ (M : mMm) (x0 : Nat) (y0 : Int32) (H : Heap) (locs : List Loc) (ls : Array Slot), mHp D n0 S M n s H locs → lv_has ls 2 [(0, .ref x0)] → fb_X5_readEither_45 S k7 M x0 y0 = some M' → W p l e Rm_X5_readEither s m args below meth c H locs 0 0 (MQ below (mQ D n0 none S M' n) args s 0 0 (mA n0)) (F0 m 45 ls [.int y0]) := by
  have hx := X.1.1
  have hb := X.1.2.1
  have hown := X.1.2.2.2.1
  have hts := X.1.2.2.2.2
  intro M x0 y0 H locs ls hp hl hF
  unfold fb_X5_readEither_45 at hF
  refine lv_istore_n (lv' := [(1, .int y0), (0, .ref x0)]) hx hb dX5_readEither_45 rfl hl (by decide) rfl (fun ls hl => ?_)
  exact b_X5_readEither_46 X _ hk7 _ _ _ _ _ _ _ hp (lv_sub hl [1, 0] rfl) hF
def fb_X5_readEither_7 (S : mSh) : Nat → mMm → Nat → Int32 → Option mMm
  | 0, _, _, _ => none
  | t + 1, M, x0, x1 => (if x1 = 0 then some M else gd ((S x0).1 = 6) (ob (f_X5_fine S M x0) fun v8 => (if v8 = 0 then some M else ob (f_X5_readOpening S M x0) fun M12 => ob (f_X5_readTwo S M12 x0) fun M15 => ob (f_X5_fine S M15 x0) fun v17 => (if v17 = 0 then (fb_X5_readEither_45 S (fb_X5_readEither_7 S t) M15 x0 (0 : Int32)) else ob (f_X5_goesOnWith S M15 x0) fun ⟨v20, M21⟩ => (if v20 = 0 then (fb_X5_readEither_45 S (fb_X5_readEither_7 S t) M21 x0 (0 : Int32)) else (fb_X5_readEither_45 S (fb_X5_readEither_7 S t) M21 x0 (1 : Int32)))))))
theorem b_X5_readEither_7 {M' : mMm} (X : mCx D n0 P p m c cX5_readEither 2 s args yX5_readEither.cls meth none) : ∀ t : Nat, ∀ (M : mMm) (x0 : Nat) (x1 : Int32) (H : Heap) (locs : List Loc) (ls : Array Slot), mHp D n0 S M n s H locs → lv_has ls 2 [(0, .ref x0), (1, .int x1)] → fb_X5_readEither_7 S t M x0 x1 = some M' → W p l e Rm_X5_readEither s m args below meth c H locs 0 0 (MQ below (mQ D n0 none S M' n) args s 0 0 (mA n0)) (F0 m 7 ls []) := by
  have hx := X.1.1
  have hb := X.1.2.1
  have hown := X.1.2.2.2.1
  have hts := X.1.2.2.2.2
  intro t
  induction t with
  | zero =>
    intro M x0 x1 H locs ls hp hl hF
    have hF : none = some M' := hF
    cases hF
  | succ t ih =>
    intro M x0 x1 H locs ls hp hl hF
    rw [fb_X5_readEither_7] at hF
    refine lv_iload_n hx hb dX5_readEither_7 rfl (lv_at hl 1 rfl) ?_
    refine lv_if_eq (tgt := 113) hx hb dX5_readEither_8 (by decide) (fun c5 => ?_) (fun c5 => ?_)
    · have hF := if_p c5 hF
      cases hF
      exact m_vret X hp dX5_readEither_113
    · have hF := if_n c5 hF
      refine lv_aload_n hx hb dX5_readEither_11 rfl (lv_at hl 0 rfl) ?_
      obtain ⟨g6, hF⟩ := gd_s hF
      obtain ⟨v8, e7, hF⟩ := ob_s hF
      refine m_callV (As := []) (rest := []) X hp (w_X5_fine e7) q1598 q1600 qs64 q144 q1601 0 rfl ds_X5_fine ⟨Nat.le_of_ble_eq_true rfl, Nat.le_of_ble_eq_true rfl⟩ 6 (T := TX5) (N := 40) rfl (by decide) g6 hl.1 rfl (Nat.le_of_ble_eq_true rfl) dX5_readEither_12 ⟨Nat.le_refl 0, Nat.le_refl 0⟩ (fun H locs hp => ?_)
      refine lv_if_eq (tgt := 113) hx hb dX5_readEither_15 (by decide) (fun c9 => ?_) (fun c9 => ?_)
      · have hF := if_p c9 hF
        cases hF
        exact m_vret X hp dX5_readEither_113
      · have hF := if_n c9 hF
        refine lv_aload_n hx hb dX5_readEither_18 rfl (lv_at hl 0 rfl) ?_
        obtain ⟨M12, e10, hF⟩ := ob_s hF
        refine m_callV (As := []) (rest := []) X hp (w_X5_readOpening e10) q1665 q1667 qs77 q144 q1668 0 rfl ds_X5_readOpening ⟨Nat.le_of_ble_eq_true rfl, Nat.le_of_ble_eq_true rfl⟩ 6 (T := TX5) (N := 40) rfl (by decide) g6 hl.1 rfl (Nat.le_of_ble_eq_true rfl) dX5_readEither_19 ⟨Nat.le_refl 0, Nat.le_refl 0⟩ (fun H locs hp => ?_)
        refine lv_aload_n hx hb dX5_readEither_22 rfl (lv_at hl 0 rfl) ?_
        obtain ⟨M15, e13, hF⟩ := ob_s hF
        refine m_callV (As := []) (rest := []) X hp (w_X5_readTwo e13) q1677 q1679 qs80 q144 q1680 0 rfl ds_X5_readTwo ⟨Nat.le_of_ble_eq_true rfl, Nat.le_of_ble_eq_true rfl⟩ 6 (T := TX5) (N := 40) rfl (by decide) g6 hl.1 rfl (Nat.le_of_ble_eq_true rfl) dX5_readEither_23 ⟨Nat.le_refl 0, Nat.le_refl 0⟩ (fun H locs hp => ?_)
        refine lv_aload_n hx hb dX5_readEither_26 rfl (lv_at hl 0 rfl) ?_
        obtain ⟨v17, e16, hF⟩ := ob_s hF
        refine m_callV (As := []) (rest := []) X hp (w_X5_fine e16) q1598 q1600 qs64 q144 q1601 0 rfl ds_X5_fine ⟨Nat.le_of_ble_eq_true rfl, Nat.le_of_ble_eq_true rfl⟩ 6 (T := TX5) (N := 40) rfl (by decide) g6 hl.1 rfl (Nat.le_of_ble_eq_true rfl) dX5_readEither_27 ⟨Nat.le_refl 0, Nat.le_refl 0⟩ (fun H locs hp => ?_)
        refine lv_if_eq (tgt := 44) hx hb dX5_readEither_30 (by decide) (fun c18 => ?_) (fun c18 => ?_)
        · have hF := if_p c18 hF
          refine lv_iconst (v := 0) hx hb dX5_readEither_44 (by decide) ?_
          exact b_X5_readEither_45 X _ ih _ _ _ _ _ _ hp (lv_sub hl [0] rfl) hF
        · have hF := if_n c18 hF
          refine lv_aload_n hx hb dX5_readEither_33 rfl (lv_at hl 0 rfl) ?_
          obtain ⟨⟨v20, M21⟩, e19, hF⟩ := ob_s hF
          refine m_callV (As := []) (rest := []) X hp (w_X5_goesOnWith e19) q1681 q1683 qs81 q144 q1684 0 rfl ds_X5_goesOnWith ⟨Nat.le_of_ble_eq_true rfl, Nat.le_of_ble_eq_true rfl⟩ 6 (T := TX5) (N := 40) rfl (by decide) g6 hl.1 rfl (Nat.le_of_ble_eq_true rfl) dX5_readEither_34 ⟨Nat.le_refl 0, Nat.le_refl 0⟩ (fun H locs hp => ?_)
          refine lv_if_eq (tgt := 44) hx hb dX5_readEither_37 (by decide) (fun c22 => ?_) (fun c22 => ?_)
          · have hF := if_p c22 hF
            refine lv_iconst (v := 0) hx hb dX5_readEither_44 (by decide) ?_
            exact b_X5_readEither_45 X _ ih _ _ _ _ _ _ hp (lv_sub hl [0] rfl) hF
          · have hF := if_n c22 hF
            refine lv_iconst (v := 1) hx hb dX5_readEither_40 (by decide) ?_
            refine lv_goto (tgt := 45) hx hb dX5_readEither_41 (by decide) ?_
            exact b_X5_readEither_45 X _ ih _ _ _ _ _ _ hp (lv_sub hl [0] rfl) hF
def f_X5_readEither (S : mSh) (M : mMm) (x0 : Nat) : Option mMm := ob (wF S M x0 6 19 (.int (0 : Int32))) fun M1 => nm ((1 : Int32)) fun v3 => (fb_X5_readEither_7 S FU M1 x0 v3)
theorem w_X5_readEither {x0 : Nat} {M' : mMm} (hF : f_X5_readEither S M x0 = some M') : mCt l D n0 P yX5_readEither cX5_readEither 2 none 7 151 0 0 [.ref x0] S M n none S M' n := by
  refine m_ofW (by decide) (Nat.le_of_ble_eq_true rfl) (fun p e s m below meth c X hnm hp ls hl => ?_)
  have hx := X.1.1
  have hb := X.1.2.1
  have hown := X.1.2.2.2.1
  have hts := X.1.2.2.2.2
  have hl : lv_has ls 2 [(0, .ref x0)] := hl
  unfold f_X5_readEither at hF
  refine lv_aload_n hx hb dX5_readEither_0 rfl (lv_at hl 0 rfl) ?_
  refine lv_iconst (v := 0) hx hb dX5_readEither_1 (by decide) ?_
  obtain ⟨M1, e2, hF⟩ := ob_s hF
  refine m_putW X hp e2 kX5 (Nat.le_of_ble_eq_true rfl) q1478 rfl rfl rfl dX5_readEither_2 (fun H locs hp => ?_)
  refine lv_iconst (v := 1) hx hb dX5_readEither_5 (by decide) ?_
  refine lv_topi (fun v3 ev4 => ?_)
  have hF := nm_s hF ev4
  refine lv_istore_n (lv' := [(1, .int v3), (0, .ref x0)]) hx hb dX5_readEither_6 rfl hl (by decide) rfl (fun ls hl => ?_)
  exact b_X5_readEither_7 X _ _ _ _ _ _ _ hp (lv_sub hl [1, 0] rfl) hF
end
section
variable {l : Launch} {D : va_G} {n0 : Nat} {P : mP} {S : mSh} {M : mMm} {n : Nat} {p : Program} {e : Env} {s : State} {m : MethodId} {args : Array Value} {below : List Frame} {meth : Method} {c : Code}
abbrev Rm_X5_readHour : Room := { frames := 3, cells := 0, slots := 0, locals := 62 }
def fb_X5_readHour_158 (S : mSh) (M : mMm) (x0 : Nat) (x1 : Int32) (x2 : Int32) (y0 : Int32) : Option mMm := gd ((S x0).1 = 6) (ob (f_X5_fine S M x0) fun v53 => (if v53 = 0 then some M else ob (rR S M x0 6 16) fun v55 => ob (wA S M v55 100 ((2325 : Int32) + ((2 : Int32) * x1)) (.int x2)) fun M57 => ob (rR S M57 x0 6 16) fun v59 => ob (wA S M57 v59 100 (((2325 : Int32) + ((2 : Int32) * x1)) + (1 : Int32)) (.int y0)) fun M61 => some M61))
theorem b_X5_readHour_158 {M' : mMm} (X : mCx D n0 P p m c cX5_readHour 5 s args yX5_readHour.cls meth none) : ∀ (M : mMm) (x0 : Nat) (x1 : Int32) (x2 : Int32) (y0 : Int32) (H : Heap) (locs : List Loc) (ls : Array Slot), mHp D n0 S M n s H locs → lv_has ls 5 [(0, .ref x0), (1, .int x1), (2, .int x2)] → fb_X5_readHour_158 S M x0 x1 x2 y0 = some M' → W p l e Rm_X5_readHour s m args below meth c H locs 0 0 (MQ below (mQ D n0 none S M' n) args s 0 0 (mA n0)) (F0 m 158 ls [.int y0]) := by
  have hx := X.1.1
  have hb := X.1.2.1
  have hown := X.1.2.2.2.1
  have hts := X.1.2.2.2.2
  intro M x0 x1 x2 y0 H locs ls hp hl hF
  unfold fb_X5_readHour_158 at hF
  refine lv_istore (lv' := [(4, .int y0), (0, .ref x0), (1, .int x1), (2, .int x2)]) hx hb dX5_readHour_158 hl (by decide) rfl (fun ls hl => ?_)
  refine lv_aload_n hx hb dX5_readHour_160 rfl (lv_at hl 1 rfl) ?_
  obtain ⟨g51, hF⟩ := gd_s hF
  obtain ⟨v53, e52, hF⟩ := ob_s hF
  refine m_callV (As := []) (rest := []) X hp (w_X5_fine e52) q1598 q1600 qs64 q144 q1601 0 rfl ds_X5_fine ⟨Nat.le_of_ble_eq_true rfl, Nat.le_of_ble_eq_true rfl⟩ 6 (T := TX5) (N := 40) rfl (by decide) g51 hl.1 rfl (Nat.le_of_ble_eq_true rfl) dX5_readHour_161 ⟨Nat.le_refl 0, Nat.le_refl 0⟩ (fun H locs hp => ?_)
  refine lv_if_ne (tgt := 168) hx hb dX5_readHour_164 (by decide) (fun c54 => ?_) (fun c54 => ?_)
  · have hF := if_n c54 hF
    refine lv_aload_n hx hb dX5_readHour_168 rfl (lv_at hl 1 rfl) ?_
    obtain ⟨v55, e56, hF⟩ := ob_s hF
    refine m_getR X hp e56 kX5 (Nat.le_of_ble_eq_true rfl) q1475 dX5_readHour_169 ?_
    refine lv_sipush (v := 2325) hx hb dX5_readHour_172 (by decide) ?_
    refine lv_iconst (v := 2) hx hb dX5_readHour_175 (by decide) ?_
    refine lv_iload_n hx hb dX5_readHour_176 rfl (lv_at hl 2 rfl) ?_
    refine lv_imul hx hb dX5_readHour_177 ?_
    refine lv_iadd hx hb dX5_readHour_178 ?_
    refine lv_iload_n hx hb dX5_readHour_179 rfl (lv_at hl 3 rfl) ?_
    obtain ⟨M57, e58, hF⟩ := ob_s hF
    refine m_iaW X hp e58 dX5_readHour_180 (fun H locs hp => ?_)
    refine lv_aload_n hx hb dX5_readHour_181 rfl (lv_at hl 1 rfl) ?_
    obtain ⟨v59, e60, hF⟩ := ob_s hF
    refine m_getR X hp e60 kX5 (Nat.le_of_ble_eq_true rfl) q1475 dX5_readHour_182 ?_
    refine lv_sipush (v := 2325) hx hb dX5_readHour_185 (by decide) ?_
    refine lv_iconst (v := 2) hx hb dX5_readHour_188 (by decide) ?_
    refine lv_iload_n hx hb dX5_readHour_189 rfl (lv_at hl 2 rfl) ?_
    refine lv_imul hx hb dX5_readHour_190 ?_
    refine lv_iadd hx hb dX5_readHour_191 ?_
    refine lv_iconst (v := 1) hx hb dX5_readHour_192 (by decide) ?_
    refine lv_iadd hx hb dX5_readHour_193 ?_
    refine lv_iload hx hb dX5_readHour_194 (lv_at hl 0 rfl) ?_
    obtain ⟨M61, e62, hF⟩ := ob_s hF
    refine m_iaW X hp e62 dX5_readHour_196 (fun H locs hp => ?_)
    cases hF
    exact m_vret X hp dX5_readHour_197
  · have hF := if_p c54 hF
    cases hF
    exact m_vret X hp dX5_readHour_167
def fb_X5_readHour_117 (S : mSh) (M : mMm) (x0 : Nat) (x1 : Int32) (x2 : Int32) (x3 : Int32) : Option mMm := gd ((S x0).1 = 6) (ob (f_X5_fine S M x0) fun v40 => (if v40 = 0 then some M else ob (f_X5_pass S M x0) fun M44 => ob (f_X5_spelt (119 : Int32) (97 : Int32) (116 : Int32) (99 : Int32) (104 : Int32) (0 : Int32)) fun v46 => (if x3 = v46 then ob (f_X5_number S M44 x0 (1 : Int32) (9 : Int32)) fun ⟨v49, M50⟩ => (fb_X5_readHour_158 S M50 x0 x1 x2 v49) else (fb_X5_readHour_158 S M44 x0 x1 x2 (0 : Int32)))))
theorem b_X5_readHour_117 {M' : mMm} (X : mCx D n0 P p m c cX5_readHour 5 s args yX5_readHour.cls meth none) : ∀ (M : mMm) (x0 : Nat) (x1 : Int32) (x2 : Int32) (x3 : Int32) (H : Heap) (locs : List Loc) (ls : Array Slot), mHp D n0 S M n s H locs → lv_has ls 5 [(0, .ref x0), (1, .int x1), (2, .int x2), (3, .int x3)] → fb_X5_readHour_117 S M x0 x1 x2 x3 = some M' → W p l e Rm_X5_readHour s m args below meth c H locs 0 0 (MQ below (mQ D n0 none S M' n) args s 0 0 (mA n0)) (F0 m 117 ls []) := by
  have hx := X.1.1
  have hb := X.1.2.1
  have hown := X.1.2.2.2.1
  have hts := X.1.2.2.2.2
  intro M x0 x1 x2 x3 H locs ls hp hl hF
  unfold fb_X5_readHour_117 at hF
  refine lv_aload_n hx hb dX5_readHour_117 rfl (lv_at hl 0 rfl) ?_
  obtain ⟨g38, hF⟩ := gd_s hF
  obtain ⟨v40, e39, hF⟩ := ob_s hF
  refine m_callV (As := []) (rest := []) X hp (w_X5_fine e39) q1598 q1600 qs64 q144 q1601 0 rfl ds_X5_fine ⟨Nat.le_of_ble_eq_true rfl, Nat.le_of_ble_eq_true rfl⟩ 6 (T := TX5) (N := 40) rfl (by decide) g38 hl.1 rfl (Nat.le_of_ble_eq_true rfl) dX5_readHour_118 ⟨Nat.le_refl 0, Nat.le_refl 0⟩ (fun H locs hp => ?_)
  refine lv_if_ne (tgt := 125) hx hb dX5_readHour_121 (by decide) (fun c41 => ?_) (fun c41 => ?_)
  · have hF := if_n c41 hF
    refine lv_aload_n hx hb dX5_readHour_125 rfl (lv_at hl 0 rfl) ?_
    obtain ⟨M44, e42, hF⟩ := ob_s hF
    refine m_callV (As := []) (rest := []) X hp (w_X5_pass e42) q1631 q1633 qs70 q144 q1634 0 rfl ds_X5_pass ⟨Nat.le_of_ble_eq_true rfl, Nat.le_of_ble_eq_true rfl⟩ 6 (T := TX5) (N := 40) rfl (by decide) g38 hl.1 rfl (Nat.le_of_ble_eq_true rfl) dX5_readHour_126 ⟨Nat.le_refl 0, Nat.le_refl 0⟩ (fun H locs hp => ?_)
    refine lv_iload_n hx hb dX5_readHour_129 rfl (lv_at hl 3 rfl) ?_
    refine lv_bipush (v := 119) hx hb dX5_readHour_130 (by decide) ?_
    refine lv_bipush (v := 97) hx hb dX5_readHour_132 (by decide) ?_
    refine lv_bipush (v := 116) hx hb dX5_readHour_134 (by decide) ?_
    refine lv_bipush (v := 99) hx hb dX5_readHour_136 (by decide) ?_
    refine lv_bipush (v := 104) hx hb dX5_readHour_138 (by decide) ?_
    refine lv_iconst (v := 0) hx hb dX5_readHour_140 (by decide) ?_
    obtain ⟨v46, e45, hF⟩ := ob_s hF
    refine m_callS (As := [.int (119 : Int32), .int (97 : Int32), .int (116 : Int32), .int (99 : Int32), .int (104 : Int32), .int (0 : Int32)]) (rest := [.int x3]) X hp (w_X5_spelt e45) q1620 q1621 q144 q1622 6 rfl ds_X5_spelt ⟨Nat.le_of_ble_eq_true rfl, Nat.le_of_ble_eq_true rfl⟩ hl.1 rfl (Nat.le_of_ble_eq_true rfl) dX5_readHour_141 ⟨Nat.le_refl 0, Nat.le_refl 0⟩ (fun H locs hp => ?_)
    refine lv_icmp_ne (tgt := 157) hx hb dX5_readHour_144 (by decide) (fun c47 => ?_) (fun c47 => ?_)
    · have hF := if_n c47 hF
      refine lv_iconst (v := 0) hx hb dX5_readHour_157 (by decide) ?_
      exact b_X5_readHour_158 X _ _ _ _ _ _ _ _ hp (lv_sub hl [0, 1, 2] rfl) hF
    · have hF := if_p c47 hF
      refine lv_aload_n hx hb dX5_readHour_147 rfl (lv_at hl 0 rfl) ?_
      refine lv_iconst (v := 1) hx hb dX5_readHour_148 (by decide) ?_
      refine lv_bipush (v := 9) hx hb dX5_readHour_149 (by decide) ?_
      obtain ⟨⟨v49, M50⟩, e48, hF⟩ := ob_s hF
      refine m_callV (As := [.int (1 : Int32), .int (9 : Int32)]) (rest := []) X hp (w_X5_number e48) q1650 q1652 qs74 q144 q1653 2 rfl ds_X5_number ⟨Nat.le_of_ble_eq_true rfl, Nat.le_of_ble_eq_true rfl⟩ 6 (T := TX5) (N := 40) rfl (by decide) g38 hl.1 rfl (Nat.le_of_ble_eq_true rfl) dX5_readHour_151 ⟨Nat.le_refl 0, Nat.le_refl 0⟩ (fun H locs hp => ?_)
      refine lv_goto (tgt := 158) hx hb dX5_readHour_154 (by decide) ?_
      exact b_X5_readHour_158 X _ _ _ _ _ _ _ _ hp (lv_sub hl [0, 1, 2] rfl) hF
  · have hF := if_p c41 hF
    cases hF
    exact m_vret X hp dX5_readHour_124
def fb_X5_readHour_64 (S : mSh) (M : mMm) (x0 : Nat) (x1 : Int32) (x2 : Int32) (y0 : Int32) : Option mMm := gd ((S x0).1 = 6) (ob (f_X5_fine S M x0) fun v25 => (if v25 = 0 then (fb_X5_readHour_117 S M x0 x1 x2 y0) else ob (f_X5_spelt (119 : Int32) (97 : Int32) (116 : Int32) (99 : Int32) (104 : Int32) (0 : Int32)) fun v28 => (if y0 = v28 then (fb_X5_readHour_117 S M x0 x1 x2 y0) else ob (f_X5_spelt (98 : Int32) (108 : Int32) (105 : Int32) (110 : Int32) (100 : Int32) (0 : Int32)) fun v31 => (if y0 = v31 then (fb_X5_readHour_117 S M x0 x1 x2 y0) else ob (rI S M x0 6 9) fun v33 => ob (f_X5_wrong S M x0 (1 : Int32) v33) fun M37 => (fb_X5_readHour_117 S M37 x0 x1 x2 y0)))))
theorem b_X5_readHour_64 {M' : mMm} (X : mCx D n0 P p m c cX5_readHour 5 s args yX5_readHour.cls meth none) : ∀ (M : mMm) (x0 : Nat) (x1 : Int32) (x2 : Int32) (y0 : Int32) (H : Heap) (locs : List Loc) (ls : Array Slot), mHp D n0 S M n s H locs → lv_has ls 5 [(0, .ref x0), (1, .int x1), (2, .int x2)] → fb_X5_readHour_64 S M x0 x1 x2 y0 = some M' → W p l e Rm_X5_readHour s m args below meth c H locs 0 0 (MQ below (mQ D n0 none S M' n) args s 0 0 (mA n0)) (F0 m 64 ls [.int y0]) := by
  have hx := X.1.1
  have hb := X.1.2.1
  have hown := X.1.2.2.2.1
  have hts := X.1.2.2.2.2
  intro M x0 x1 x2 y0 H locs ls hp hl hF
  unfold fb_X5_readHour_64 at hF
  refine lv_istore_n (lv' := [(3, .int y0), (0, .ref x0), (1, .int x1), (2, .int x2)]) hx hb dX5_readHour_64 rfl hl (by decide) rfl (fun ls hl => ?_)
  refine lv_aload_n hx hb dX5_readHour_65 rfl (lv_at hl 1 rfl) ?_
  obtain ⟨g23, hF⟩ := gd_s hF
  obtain ⟨v25, e24, hF⟩ := ob_s hF
  refine m_callV (As := []) (rest := []) X hp (w_X5_fine e24) q1598 q1600 qs64 q144 q1601 0 rfl ds_X5_fine ⟨Nat.le_of_ble_eq_true rfl, Nat.le_of_ble_eq_true rfl⟩ 6 (T := TX5) (N := 40) rfl (by decide) g23 hl.1 rfl (Nat.le_of_ble_eq_true rfl) dX5_readHour_66 ⟨Nat.le_refl 0, Nat.le_refl 0⟩ (fun H locs hp => ?_)
  refine lv_if_eq (tgt := 117) hx hb dX5_readHour_69 (by decide) (fun c26 => ?_) (fun c26 => ?_)
  · have hF := if_p c26 hF
    exact b_X5_readHour_117 X _ _ _ _ _ _ _ _ hp (lv_sub hl [1, 2, 3, 0] rfl) hF
  · have hF := if_n c26 hF
    refine lv_iload_n hx hb dX5_readHour_72 rfl (lv_at hl 0 rfl) ?_
    refine lv_bipush (v := 119) hx hb dX5_readHour_73 (by decide) ?_
    refine lv_bipush (v := 97) hx hb dX5_readHour_75 (by decide) ?_
    refine lv_bipush (v := 116) hx hb dX5_readHour_77 (by decide) ?_
    refine lv_bipush (v := 99) hx hb dX5_readHour_79 (by decide) ?_
    refine lv_bipush (v := 104) hx hb dX5_readHour_81 (by decide) ?_
    refine lv_iconst (v := 0) hx hb dX5_readHour_83 (by decide) ?_
    obtain ⟨v28, e27, hF⟩ := ob_s hF
    refine m_callS (As := [.int (119 : Int32), .int (97 : Int32), .int (116 : Int32), .int (99 : Int32), .int (104 : Int32), .int (0 : Int32)]) (rest := [.int y0]) X hp (w_X5_spelt e27) q1620 q1621 q144 q1622 6 rfl ds_X5_spelt ⟨Nat.le_of_ble_eq_true rfl, Nat.le_of_ble_eq_true rfl⟩ hl.1 rfl (Nat.le_of_ble_eq_true rfl) dX5_readHour_84 ⟨Nat.le_refl 0, Nat.le_refl 0⟩ (fun H locs hp => ?_)
    refine lv_icmp_eq (tgt := 117) hx hb dX5_readHour_87 (by decide) (fun c29 => ?_) (fun c29 => ?_)
    · have hF := if_p c29 hF
      exact b_X5_readHour_117 X _ _ _ _ _ _ _ _ hp (lv_sub hl [1, 2, 3, 0] rfl) hF
    · have hF := if_n c29 hF
      refine lv_iload_n hx hb dX5_readHour_90 rfl (lv_at hl 0 rfl) ?_
      refine lv_bipush (v := 98) hx hb dX5_readHour_91 (by decide) ?_
      refine lv_bipush (v := 108) hx hb dX5_readHour_93 (by decide) ?_
      refine lv_bipush (v := 105) hx hb dX5_readHour_95 (by decide) ?_
      refine lv_bipush (v := 110) hx hb dX5_readHour_97 (by decide) ?_
      refine lv_bipush (v := 100) hx hb dX5_readHour_99 (by decide) ?_
      refine lv_iconst (v := 0) hx hb dX5_readHour_101 (by decide) ?_
      obtain ⟨v31, e30, hF⟩ := ob_s hF
      refine m_callS (As := [.int (98 : Int32), .int (108 : Int32), .int (105 : Int32), .int (110 : Int32), .int (100 : Int32), .int (0 : Int32)]) (rest := [.int y0]) X hp (w_X5_spelt e30) q1620 q1621 q144 q1622 6 rfl ds_X5_spelt ⟨Nat.le_of_ble_eq_true rfl, Nat.le_of_ble_eq_true rfl⟩ hl.1 rfl (Nat.le_of_ble_eq_true rfl) dX5_readHour_102 ⟨Nat.le_refl 0, Nat.le_refl 0⟩ (fun H locs hp => ?_)
      refine lv_icmp_eq (tgt := 117) hx hb dX5_readHour_105 (by decide) (fun c32 => ?_) (fun c32 => ?_)
      · have hF := if_p c32 hF
        exact b_X5_readHour_117 X _ _ _ _ _ _ _ _ hp (lv_sub hl [1, 2, 3, 0] rfl) hF
      · have hF := if_n c32 hF
        refine lv_aload_n hx hb dX5_readHour_108 rfl (lv_at hl 1 rfl) ?_
        refine lv_iconst (v := 1) hx hb dX5_readHour_109 (by decide) ?_
        refine lv_aload_n hx hb dX5_readHour_110 rfl (lv_at hl 1 rfl) ?_
        obtain ⟨v33, e34, hF⟩ := ob_s hF
        refine m_getI X hp e34 kX5 (Nat.le_of_ble_eq_true rfl) q1468 dX5_readHour_111 ?_
        obtain ⟨M37, e35, hF⟩ := ob_s hF
        refine m_callV (As := [.int (1 : Int32), .int v33]) (rest := []) X hp (w_X5_wrong e35) q1627 q1629 qs69 q144 q1630 2 rfl ds_X5_wrong ⟨Nat.le_of_ble_eq_true rfl, Nat.le_of_ble_eq_true rfl⟩ 6 (T := TX5) (N := 40) rfl (by decide) (rI_s e34).1 hl.1 rfl (Nat.le_of_ble_eq_true rfl) dX5_readHour_114 ⟨Nat.le_refl 0, Nat.le_refl 0⟩ (fun H locs hp => ?_)
        exact b_X5_readHour_117 X _ _ _ _ _ _ _ _ hp (lv_sub hl [1, 2, 3, 0] rfl) hF
def fb_X5_readHour_37 (S : mSh) (M : mMm) (x0 : Nat) (x1 : Int32) (y0 : Int32) (y1 : Int32) (y2 : Nat) : Option mMm := gd ((S y2).1 = 6) (ob (f_X5_mayBegin S M y2 y1 y0) fun M12 => gd ((S x0).1 = 6) (ob (f_X5_number S M12 x0 (0 : Int32) (999 : Int32)) fun ⟨v15, M16⟩ => ob (f_X5_fine S M16 x0) fun v18 => (if v18 = 0 then (fb_X5_readHour_64 S M16 x0 x1 v15 (0 : Int32)) else ob (f_X5_word S M16 x0) fun ⟨v21, M22⟩ => (fb_X5_readHour_64 S M22 x0 x1 v15 v21))))
theorem b_X5_readHour_37 {M' : mMm} (X : mCx D n0 P p m c cX5_readHour 5 s args yX5_readHour.cls meth none) : ∀ (M : mMm) (x0 : Nat) (x1 : Int32) (y0 : Int32) (y1 : Int32) (y2 : Nat) (H : Heap) (locs : List Loc) (ls : Array Slot), mHp D n0 S M n s H locs → lv_has ls 5 [(0, .ref x0), (1, .int x1)] → fb_X5_readHour_37 S M x0 x1 y0 y1 y2 = some M' → W p l e Rm_X5_readHour s m args below meth c H locs 0 0 (MQ below (mQ D n0 none S M' n) args s 0 0 (mA n0)) (F0 m 37 ls [.int y0, .int y1, .ref y2]) := by
  have hx := X.1.1
  have hb := X.1.2.1
  have hown := X.1.2.2.2.1
  have hts := X.1.2.2.2.2
  intro M x0 x1 y0 y1 y2 H locs ls hp hl hF
  unfold fb_X5_readHour_37 at hF
  obtain ⟨g9, hF⟩ := gd_s hF
  obtain ⟨M12, e10, hF⟩ := ob_s hF
  refine m_callV (As := [.int y1, .int y0]) (rest := []) X hp (w_X5_mayBegin e10) q1623 q1625 qs68 q144 q1626 2 rfl ds_X5_mayBegin ⟨Nat.le_of_ble_eq_true rfl, Nat.le_of_ble_eq_true rfl⟩ 6 (T := TX5) (N := 40) rfl (by decide) g9 hl.1 rfl (Nat.le_of_ble_eq_true rfl) dX5_readHour_37 ⟨Nat.le_refl 0, Nat.le_refl 0⟩ (fun H locs hp => ?_)
  refine lv_aload_n hx hb dX5_readHour_40 rfl (lv_at hl 0 rfl) ?_
  refine lv_iconst (v := 0) hx hb dX5_readHour_41 (by decide) ?_
  refine lv_sipush (v := 999) hx hb dX5_readHour_42 (by decide) ?_
  obtain ⟨g13, hF⟩ := gd_s hF
  obtain ⟨⟨v15, M16⟩, e14, hF⟩ := ob_s hF
  refine m_callV (As := [.int (0 : Int32), .int (999 : Int32)]) (rest := []) X hp (w_X5_number e14) q1650 q1652 qs74 q144 q1653 2 rfl ds_X5_number ⟨Nat.le_of_ble_eq_true rfl, Nat.le_of_ble_eq_true rfl⟩ 6 (T := TX5) (N := 40) rfl (by decide) g13 hl.1 rfl (Nat.le_of_ble_eq_true rfl) dX5_readHour_45 ⟨Nat.le_refl 0, Nat.le_refl 0⟩ (fun H locs hp => ?_)
  refine lv_istore_n (lv' := [(2, .int v15), (0, .ref x0), (1, .int x1)]) hx hb dX5_readHour_48 rfl hl (by decide) rfl (fun ls hl => ?_)
  refine lv_aload_n hx hb dX5_readHour_49 rfl (lv_at hl 1 rfl) ?_
  obtain ⟨v18, e17, hF⟩ := ob_s hF
  refine m_callV (As := []) (rest := []) X hp (w_X5_fine e17) q1598 q1600 qs64 q144 q1601 0 rfl ds_X5_fine ⟨Nat.le_of_ble_eq_true rfl, Nat.le_of_ble_eq_true rfl⟩ 6 (T := TX5) (N := 40) rfl (by decide) g13 hl.1 rfl (Nat.le_of_ble_eq_true rfl) dX5_readHour_50 ⟨Nat.le_refl 0, Nat.le_refl 0⟩ (fun H locs hp => ?_)
  refine lv_if_eq (tgt := 63) hx hb dX5_readHour_53 (by decide) (fun c19 => ?_) (fun c19 => ?_)
  · have hF := if_p c19 hF
    refine lv_iconst (v := 0) hx hb dX5_readHour_63 (by decide) ?_
    exact b_X5_readHour_64 X _ _ _ _ _ _ _ _ hp (lv_sub hl [1, 2, 0] rfl) hF
  · have hF := if_n c19 hF
    refine lv_aload_n hx hb dX5_readHour_56 rfl (lv_at hl 1 rfl) ?_
    obtain ⟨⟨v21, M22⟩, e20, hF⟩ := ob_s hF
    refine m_callV (As := []) (rest := []) X hp (w_X5_word e20) q1610 q1612 qs67 q144 q1613 0 rfl ds_X5_word ⟨Nat.le_of_ble_eq_true rfl, Nat.le_of_ble_eq_true rfl⟩ 6 (T := TX5) (N := 40) rfl (by decide) g13 hl.1 rfl (Nat.le_of_ble_eq_true rfl) dX5_readHour_57 ⟨Nat.le_refl 0, Nat.le_refl 0⟩ (fun H locs hp => ?_)
    refine lv_goto (tgt := 64) hx hb dX5_readHour_60 (by decide) ?_
    exact b_X5_readHour_64 X _ _ _ _ _ _ _ _ hp (lv_sub hl [1, 2, 0] rfl) hF
def fb_X5_readHour_26 (S : mSh) (M : mMm) (x0 : Nat) (x1 : Int32) (y0 : Int32) (y1 : Nat) : Option mMm := (if x1 = (16 : Int32) then (fb_X5_readHour_37 S M x0 x1 (1 : Int32) y0 y1) else (fb_X5_readHour_37 S M x0 x1 (0 : Int32) y0 y1))
theorem b_X5_readHour_26 {M' : mMm} (X : mCx D n0 P p m c cX5_readHour 5 s args yX5_readHour.cls meth none) : ∀ (M : mMm) (x0 : Nat) (x1 : Int32) (y0 : Int32) (y1 : Nat) (H : Heap) (locs : List Loc) (ls : Array Slot), mHp D n0 S M n s H locs → lv_has ls 5 [(0, .ref x0), (1, .int x1)] → fb_X5_readHour_26 S M x0 x1 y0 y1 = some M' → W p l e Rm_X5_readHour s m args below meth c H locs 0 0 (MQ below (mQ D n0 none S M' n) args s 0 0 (mA n0)) (F0 m 26 ls [.int y0, .ref y1]) := by
  have hx := X.1.1
  have hb := X.1.2.1
  have hown := X.1.2.2.2.1
  have hts := X.1.2.2.2.2
  intro M x0 x1 y0 y1 H locs ls hp hl hF
  unfold fb_X5_readHour_26 at hF
  refine lv_iload_n hx hb dX5_readHour_26 rfl (lv_at hl 1 rfl) ?_
  refine lv_bipush (v := 16) hx hb dX5_readHour_27 (by decide) ?_
  refine lv_icmp_ne (tgt := 36) hx hb dX5_readHour_29 (by decide) (fun c8 => ?_) (fun c8 => ?_)
  · have hF := if_n c8 hF
    refine lv_iconst (v := 0) hx hb dX5_readHour_36 (by decide) ?_
    exact b_X5_readHour_37 X _ _ _ _ _ _ _ _ _ hp (lv_sub hl [0, 1] rfl) hF
  · have hF := if_p c8 hF
    refine lv_iconst (v := 1) hx hb dX5_readHour_32 (by decide) ?_
    refine lv_goto (tgt := 37) hx hb dX5_readHour_33 (by decide) ?_
    exact b_X5_readHour_37 X _ _ _ _ _ _ _ _ _ hp (lv_sub hl [0, 1] rfl) hF
def f_X5_readHour (S : mSh) (M : mMm) (x0 : Nat) (x1 : Int32) : Option mMm := gd ((S x0).1 = 6) (ob (f_X5_word S M x0) fun ⟨v3, M4⟩ => ob (f_X5_spelt (102 : Int32) (114 : Int32) (111 : Int32) (109 : Int32) (0 : Int32) (0 : Int32)) fun v6 => (if v3 = v6 then (fb_X5_readHour_26 S M4 x0 x1 (1 : Int32) x0) else (fb_X5_readHour_26 S M4 x0 x1 (0 : Int32) x0)))
theorem w_X5_readHour {x0 : Nat} {x1 : Int32} {M' : mMm} (hF : f_X5_readHour S M x0 x1 = some M') : mCt l D n0 P yX5_readHour cX5_readHour 5 none 3 62 0 0 [.ref x0, .int x1] S M n none S M' n := by
  refine m_ofW (by decide) (Nat.le_of_ble_eq_true rfl) (fun p e s m below meth c X hnm hp ls hl => ?_)
  have hx := X.1.1
  have hb := X.1.2.1
  have hown := X.1.2.2.2.1
  have hts := X.1.2.2.2.2
  have hl : lv_has ls 5 [(0, .ref x0), (1, .int x1)] := hl
  unfold f_X5_readHour at hF
  refine lv_aload_n hx hb dX5_readHour_0 rfl (lv_at hl 0 rfl) ?_
  refine lv_aload_n hx hb dX5_readHour_1 rfl (lv_at hl 0 rfl) ?_
  obtain ⟨g1, hF⟩ := gd_s hF
  obtain ⟨⟨v3, M4⟩, e2, hF⟩ := ob_s hF
  refine m_callV (As := []) (rest := [.ref x0]) X hp (w_X5_word e2) q1610 q1612 qs67 q144 q1613 0 rfl ds_X5_word ⟨Nat.le_of_ble_eq_true rfl, Nat.le_of_ble_eq_true rfl⟩ 6 (T := TX5) (N := 40) rfl (by decide) g1 hl.1 rfl (Nat.le_of_ble_eq_true rfl) dX5_readHour_2 ⟨Nat.le_refl 0, Nat.le_refl 0⟩ (fun H locs hp => ?_)
  refine lv_bipush (v := 102) hx hb dX5_readHour_5 (by decide) ?_
  refine lv_bipush (v := 114) hx hb dX5_readHour_7 (by decide) ?_
  refine lv_bipush (v := 111) hx hb dX5_readHour_9 (by decide) ?_
  refine lv_bipush (v := 109) hx hb dX5_readHour_11 (by decide) ?_
  refine lv_iconst (v := 0) hx hb dX5_readHour_13 (by decide) ?_
  refine lv_iconst (v := 0) hx hb dX5_readHour_14 (by decide) ?_
  obtain ⟨v6, e5, hF⟩ := ob_s hF
  refine m_callS (As := [.int (102 : Int32), .int (114 : Int32), .int (111 : Int32), .int (109 : Int32), .int (0 : Int32), .int (0 : Int32)]) (rest := [.int v3, .ref x0]) X hp (w_X5_spelt e5) q1620 q1621 q144 q1622 6 rfl ds_X5_spelt ⟨Nat.le_of_ble_eq_true rfl, Nat.le_of_ble_eq_true rfl⟩ hl.1 rfl (Nat.le_of_ble_eq_true rfl) dX5_readHour_15 ⟨Nat.le_refl 0, Nat.le_refl 0⟩ (fun H locs hp => ?_)
  refine lv_icmp_ne (tgt := 25) hx hb dX5_readHour_18 (by decide) (fun c7 => ?_) (fun c7 => ?_)
  · have hF := if_n c7 hF
    refine lv_iconst (v := 0) hx hb dX5_readHour_25 (by decide) ?_
    exact b_X5_readHour_26 X _ _ _ _ _ _ _ _ hp (lv_sub hl [0, 1] rfl) hF
  · have hF := if_p c7 hF
    refine lv_iconst (v := 1) hx hb dX5_readHour_21 (by decide) ?_
    refine lv_goto (tgt := 26) hx hb dX5_readHour_22 (by decide) ?_
    exact b_X5_readHour_26 X _ _ _ _ _ _ _ _ hp (lv_sub hl [0, 1] rfl) hF
end
