set_option maxRecDepth 100000
section
variable {l : Launch} {D : va_G} {n0 : Nat} {P : mP} {S : mSh} {M : mMm} {n : Nat} {p : Program} {e : Env} {s : State} {m : MethodId} {args : Array Value} {below : List Frame} {meth : Method} {c : Code}
abbrev Rm_X1_comes : Room := { frames := 3, cells := 0, slots := 0, locals := 62 }
def f_X1_comes (S : mSh) (M : mMm) (x0 : Nat) (x1 : Int32) (x2 : Int32) (x3 : Int32) : Option mMm := ob (rR S M x0 2 1) fun v1 => ob (aR S M v1 104 x1) fun v3 => gd ((S v3).1 = 5) (ob (f_X4_comes S M v3 x2 x3) fun M8 => ob (f_X1_notes S M8 x0 (0 : Int32) x1 x3) fun M11 => some M11)
theorem w_X1_comes {x0 : Nat} {x1 : Int32} {x2 : Int32} {x3 : Int32} {M' : mMm} (hF : f_X1_comes S M x0 x1 x2 x3 = some M') : mCt l D n0 P yX1_comes cX1_comes 4 none 3 62 0 0 [.ref x0, .int x1, .int x2, .int x3] S M n none S M' n := by
  refine m_ofW (by decide) (Nat.le_of_ble_eq_true rfl) (fun p e s m below meth c X hnm hp ls hl => ?_)
  have hx := X.1.1
  have hb := X.1.2.1
  have hown := X.1.2.2.2.1
  have hts := X.1.2.2.2.2
  have hl : lv_has ls 4 [(0, .ref x0), (1, .int x1), (2, .int x2), (3, .int x3)] := hl
  unfold f_X1_comes at hF
  refine lv_aload_n hx hb dX1_comes_0 rfl (lv_at hl 0 rfl) ?_
  obtain ⟨v1, e2, hF⟩ := ob_s hF
  refine m_getR X hp e2 kX1 (Nat.le_of_ble_eq_true rfl) q377 dX1_comes_1 ?_
  refine lv_iload_n hx hb dX1_comes_4 rfl (lv_at hl 1 rfl) ?_
  obtain ⟨v3, e4, hF⟩ := ob_s hF
  refine m_aaR 104 X hp e4 rfl (by decide) rfl dX1_comes_5 ?_
  refine lv_iload_n hx hb dX1_comes_6 rfl (lv_at hl 2 rfl) ?_
  refine lv_iload_n hx hb dX1_comes_7 rfl (lv_at hl 3 rfl) ?_
  obtain ⟨g5, hF⟩ := gd_s hF
  obtain ⟨M8, e6, hF⟩ := ob_s hF
  refine m_callV (As := [.int x2, .int x3]) (rest := []) X hp (w_X4_comes e6) q1040 q1041 q1042 q139 q1043 2 rfl ds_X4_comes ⟨Nat.le_of_ble_eq_true rfl, Nat.le_of_ble_eq_true rfl⟩ 5 (T := TX4) (N := 11) rfl (by decide) g5 hl.1 rfl (Nat.le_of_ble_eq_true rfl) dX1_comes_8 ⟨Nat.le_refl 0, Nat.le_refl 0⟩ (fun H locs hp => ?_)
  refine lv_aload_n hx hb dX1_comes_11 rfl (lv_at hl 0 rfl) ?_
  refine lv_iconst (v := 0) hx hb dX1_comes_12 (by decide) ?_
  refine lv_iload_n hx hb dX1_comes_13 rfl (lv_at hl 1 rfl) ?_
  refine lv_iload_n hx hb dX1_comes_14 rfl (lv_at hl 3 rfl) ?_
  obtain ⟨M11, e9, hF⟩ := ob_s hF
  refine m_callV (As := [.int (0 : Int32), .int x1, .int x3]) (rest := []) X hp (w_X1_notes e9) q1044 q1046 qs32 q133 q1047 3 rfl ds_X1_notes ⟨Nat.le_of_ble_eq_true rfl, Nat.le_of_ble_eq_true rfl⟩ 2 (T := TX1) (N := 19) rfl (by decide) (rR_s e2).1 hl.1 rfl (Nat.le_of_ble_eq_true rfl) dX1_comes_15 ⟨Nat.le_refl 0, Nat.le_refl 0⟩ (fun H locs hp => ?_)
  cases hF
  exact m_vret X hp dX1_comes_18
end
section
variable {l : Launch} {D : va_G} {n0 : Nat} {P : mP} {S : mSh} {M : mMm} {n : Nat} {p : Program} {e : Env} {s : State} {m : MethodId} {args : Array Value} {below : List Frame} {meth : Method} {c : Code}
abbrev Rm_X0_comes : Room := { frames := 6, cells := 0, slots := 0, locals := 126 }
def fb_X0_comes_85 (S : mSh) (M : mMm) (x0 : Nat) (x1 : Int32) (x2 : Int32) (x4 : Int32) (y0 : Int32) : Option (Int32 × mMm) := ob (rR S M x0 1 4) fun v25 => gd ((S v25).1 = 2) (ob (f_X1_isFree S M v25 (((12 : Int32) * y0) + x4)) fun v29 => (if v29 = 0 then some ((0 : Int32), M) else ob (f_X0_remembers S M x0) fun ⟨v32, M33⟩ => ob (rR S M33 x0 1 4) fun v34 => gd ((S v34).1 = 2) (ob (f_X1_comes S M33 v34 x1 x2 (((12 : Int32) * y0) + x4)) fun M39 => some ((1 : Int32), M39))))
theorem b_X0_comes_85 {r : Int32} {M' : mMm} (X : mCx D n0 P p m c cX0_comes 6 s args yX0_comes.cls meth (some .boolean)) : ∀ (M : mMm) (x0 : Nat) (x1 : Int32) (x2 : Int32) (x4 : Int32) (y0 : Int32) (H : Heap) (locs : List Loc) (ls : Array Slot), mHp D n0 S M n s H locs → lv_has ls 6 [(0, .ref x0), (1, .int x1), (2, .int x2), (4, .int x4)] → fb_X0_comes_85 S M x0 x1 x2 x4 y0 = some (r, M') → W p l e Rm_X0_comes s m args below meth c H locs 0 0 (MQ below (mQ D n0 (some (.int r)) S M' n) args s 0 0 (mA n0)) (F0 m 85 ls [.int y0]) := by
  have hx := X.1.1
  have hb := X.1.2.1
  have hown := X.1.2.2.2.1
  have hts := X.1.2.2.2.2
  intro M x0 x1 x2 x4 y0 H locs ls hp hl hF
  unfold fb_X0_comes_85 at hF
  refine lv_istore (lv' := [(5, .int y0), (0, .ref x0), (1, .int x1), (2, .int x2), (4, .int x4)]) hx hb dX0_comes_85 hl (by decide) rfl (fun ls hl => ?_)
  refine lv_aload_n hx hb dX0_comes_87 rfl (lv_at hl 1 rfl) ?_
  obtain ⟨v25, e26, hF⟩ := ob_s hF
  refine m_getR X hp e26 kX0 (Nat.le_of_ble_eq_true rfl) q463 dX0_comes_88 ?_
  refine lv_bipush (v := 12) hx hb dX0_comes_91 (by decide) ?_
  refine lv_iload hx hb dX0_comes_93 (lv_at hl 0 rfl) ?_
  refine lv_imul hx hb dX0_comes_95 ?_
  refine lv_iload hx hb dX0_comes_96 (lv_at hl 4 rfl) ?_
  refine lv_iadd hx hb dX0_comes_98 ?_
  obtain ⟨g27, hF⟩ := gd_s hF
  obtain ⟨v29, e28, hF⟩ := ob_s hF
  refine m_callV (As := [.int (((12 : Int32) * y0) + x4)]) (rest := []) X hp (w_X1_isFree e28) q1024 q1025 q1026 q133 q1027 1 rfl ds_X1_isFree ⟨Nat.le_of_ble_eq_true rfl, Nat.le_of_ble_eq_true rfl⟩ 2 (T := TX1) (N := 19) rfl (by decide) g27 hl.1 rfl (Nat.le_of_ble_eq_true rfl) dX0_comes_99 ⟨Nat.le_refl 0, Nat.le_refl 0⟩ (fun H locs hp => ?_)
  refine lv_if_ne (tgt := 107) hx hb dX0_comes_102 (by decide) (fun c30 => ?_) (fun c30 => ?_)
  · have hF := if_n c30 hF
    refine lv_aload_n hx hb dX0_comes_107 rfl (lv_at hl 1 rfl) ?_
    obtain ⟨⟨v32, M33⟩, e31, hF⟩ := ob_s hF
    refine m_callV (As := []) (rest := []) X hp (w_X0_remembers e31) q1032 q1034 qs31 q132 q1035 0 rfl ds_X0_remembers ⟨Nat.le_of_ble_eq_true rfl, Nat.le_of_ble_eq_true rfl⟩ 1 (T := TX0) (N := 30) rfl (by decide) (rR_s e26).1 hl.1 rfl (Nat.le_of_ble_eq_true rfl) dX0_comes_108 ⟨Nat.le_refl 0, Nat.le_refl 0⟩ (fun H locs hp => ?_)
    refine lv_pop hx hb dX0_comes_111 rfl ?_
    refine lv_aload_n hx hb dX0_comes_112 rfl (lv_at hl 1 rfl) ?_
    obtain ⟨v34, e35, hF⟩ := ob_s hF
    refine m_getR X hp e35 kX0 (Nat.le_of_ble_eq_true rfl) q463 dX0_comes_113 ?_
    refine lv_iload_n hx hb dX0_comes_116 rfl (lv_at hl 2 rfl) ?_
    refine lv_iload_n hx hb dX0_comes_117 rfl (lv_at hl 3 rfl) ?_
    refine lv_bipush (v := 12) hx hb dX0_comes_118 (by decide) ?_
    refine lv_iload hx hb dX0_comes_120 (lv_at hl 0 rfl) ?_
    refine lv_imul hx hb dX0_comes_122 ?_
    refine lv_iload hx hb dX0_comes_123 (lv_at hl 4 rfl) ?_
    refine lv_iadd hx hb dX0_comes_125 ?_
    obtain ⟨g36, hF⟩ := gd_s hF
    obtain ⟨M39, e37, hF⟩ := ob_s hF
    refine m_callV (As := [.int x1, .int x2, .int (((12 : Int32) * y0) + x4)]) (rest := []) X hp (w_X1_comes e37) q1036 q1037 q1038 q133 q1039 3 rfl ds_X1_comes ⟨Nat.le_of_ble_eq_true rfl, Nat.le_of_ble_eq_true rfl⟩ 2 (T := TX1) (N := 19) rfl (by decide) g36 hl.1 rfl (Nat.le_of_ble_eq_true rfl) dX0_comes_126 ⟨Nat.le_refl 0, Nat.le_refl 0⟩ (fun H locs hp => ?_)
    refine lv_iconst (v := 1) hx hb dX0_comes_129 (by decide) ?_
    cases hF
    exact m_zret X hp rfl dX0_comes_130
  · have hF := if_p c30 hF
    refine lv_iconst (v := 0) hx hb dX0_comes_105 (by decide) ?_
    cases hF
    exact m_zret X hp rfl dX0_comes_106
def fb_X0_comes_64 (S : mSh) (M : mMm) (x0 : Nat) (x1 : Int32) (x2 : Int32) (x3 : Int32) (y0 : Int32) : Option (Int32 × mMm) := (if x2 = 0 then (fb_X0_comes_85 S M x0 x1 x2 y0 (0 : Int32)) else (if x2 = (2 : Int32) then (fb_X0_comes_85 S M x0 x1 x2 y0 (11 : Int32)) else (fb_X0_comes_85 S M x0 x1 x2 y0 x3)))
theorem b_X0_comes_64 {r : Int32} {M' : mMm} (X : mCx D n0 P p m c cX0_comes 6 s args yX0_comes.cls meth (some .boolean)) : ∀ (M : mMm) (x0 : Nat) (x1 : Int32) (x2 : Int32) (x3 : Int32) (y0 : Int32) (H : Heap) (locs : List Loc) (ls : Array Slot), mHp D n0 S M n s H locs → lv_has ls 6 [(0, .ref x0), (1, .int x1), (2, .int x2), (3, .int x3)] → fb_X0_comes_64 S M x0 x1 x2 x3 y0 = some (r, M') → W p l e Rm_X0_comes s m args below meth c H locs 0 0 (MQ below (mQ D n0 (some (.int r)) S M' n) args s 0 0 (mA n0)) (F0 m 64 ls [.int y0]) := by
  have hx := X.1.1
  have hb := X.1.2.1
  have hown := X.1.2.2.2.1
  have hts := X.1.2.2.2.2
  intro M x0 x1 x2 x3 y0 H locs ls hp hl hF
  unfold fb_X0_comes_64 at hF
  refine lv_istore (lv' := [(4, .int y0), (0, .ref x0), (1, .int x1), (2, .int x2), (3, .int x3)]) hx hb dX0_comes_64 hl (by decide) rfl (fun ls hl => ?_)
  refine lv_iload_n hx hb dX0_comes_66 rfl (lv_at hl 3 rfl) ?_
  refine lv_if_ne (tgt := 74) hx hb dX0_comes_67 (by decide) (fun c23 => ?_) (fun c23 => ?_)
  · have hF := if_n c23 hF
    refine lv_iload_n hx hb dX0_comes_74 rfl (lv_at hl 3 rfl) ?_
    refine lv_iconst (v := 2) hx hb dX0_comes_75 (by decide) ?_
    refine lv_icmp_ne (tgt := 84) hx hb dX0_comes_76 (by decide) (fun c24 => ?_) (fun c24 => ?_)
    · have hF := if_n c24 hF
      refine lv_iload_n hx hb dX0_comes_84 rfl (lv_at hl 4 rfl) ?_
      exact b_X0_comes_85 X _ _ _ _ _ _ _ _ _ hp (lv_sub hl [1, 2, 3, 0] rfl) hF
    · have hF := if_p c24 hF
      refine lv_bipush (v := 11) hx hb dX0_comes_79 (by decide) ?_
      refine lv_goto (tgt := 85) hx hb dX0_comes_81 (by decide) ?_
      exact b_X0_comes_85 X _ _ _ _ _ _ _ _ _ hp (lv_sub hl [1, 2, 3, 0] rfl) hF
  · have hF := if_p c23 hF
    refine lv_iconst (v := 0) hx hb dX0_comes_70 (by decide) ?_
    refine lv_goto (tgt := 85) hx hb dX0_comes_71 (by decide) ?_
    exact b_X0_comes_85 X _ _ _ _ _ _ _ _ _ hp (lv_sub hl [1, 2, 3, 0] rfl) hF
def f_X0_comes (S : mSh) (M : mMm) (x0 : Nat) (x1 : Int32) (x2 : Int32) (x3 : Int32) : Option (Int32 × mMm) := gd ((S x0).1 = 1) (ob (f_X0_isWalker S M x0 x1) fun v3 => (if v3 = 0 then some ((0 : Int32), M) else ob (rR S M x0 1 4) fun v5 => ob (rR S M v5 2 1) fun v7 => ob (aR S M v7 104 x1) fun v9 => gd ((S v9).1 = 5) (ob (f_X4_isIn S M v9) fun v13 => (if v13 = 0 then ob (f_X0_isIn x2 (0 : Int32) (3 : Int32)) fun v16 => (if v16 = 0 then some ((0 : Int32), M) else ob (f_X0_isIn x3 (0 : Int32) (11 : Int32)) fun v19 => (if v19 = 0 then some ((0 : Int32), M) else (if x2 = (1 : Int32) then (fb_X0_comes_64 S M x0 x1 x2 x3 (0 : Int32)) else (if x2 = (3 : Int32) then (fb_X0_comes_64 S M x0 x1 x2 x3 (11 : Int32)) else (fb_X0_comes_64 S M x0 x1 x2 x3 x3))))) else some ((0 : Int32), M)))))
theorem w_X0_comes {x0 : Nat} {x1 : Int32} {x2 : Int32} {x3 : Int32} {r : Int32} {M' : mMm} (hF : f_X0_comes S M x0 x1 x2 x3 = some (r, M')) : mCt l D n0 P yX0_comes cX0_comes 6 (some .boolean) 6 126 0 0 [.ref x0, .int x1, .int x2, .int x3] S M n (some (.int r)) S M' n := by
  refine m_ofW (by decide) (Nat.le_of_ble_eq_true rfl) (fun p e s m below meth c X hnm hp ls hl => ?_)
  have hx := X.1.1
  have hb := X.1.2.1
  have hown := X.1.2.2.2.1
  have hts := X.1.2.2.2.2
  have hl : lv_has ls 6 [(0, .ref x0), (1, .int x1), (2, .int x2), (3, .int x3)] := hl
  unfold f_X0_comes at hF
  refine lv_aload_n hx hb dX0_comes_0 rfl (lv_at hl 0 rfl) ?_
  refine lv_iload_n hx hb dX0_comes_1 rfl (lv_at hl 1 rfl) ?_
  obtain ⟨g1, hF⟩ := gd_s hF
  obtain ⟨v3, e2, hF⟩ := ob_s hF
  refine m_callV (As := [.int x1]) (rest := []) X hp (w_X0_isWalker e2) q1019 q1021 qs30 q132 q1022 1 rfl ds_X0_isWalker ⟨Nat.le_of_ble_eq_true rfl, Nat.le_of_ble_eq_true rfl⟩ 1 (T := TX0) (N := 30) rfl (by decide) g1 hl.1 rfl (Nat.le_of_ble_eq_true rfl) dX0_comes_2 ⟨Nat.le_refl 0, Nat.le_refl 0⟩ (fun H locs hp => ?_)
  refine lv_if_eq (tgt := 42) hx hb dX0_comes_5 (by decide) (fun c4 => ?_) (fun c4 => ?_)
  · have hF := if_p c4 hF
    refine lv_iconst (v := 0) hx hb dX0_comes_42 (by decide) ?_
    cases hF
    exact m_zret X hp rfl dX0_comes_43
  · have hF := if_n c4 hF
    refine lv_aload_n hx hb dX0_comes_8 rfl (lv_at hl 0 rfl) ?_
    obtain ⟨v5, e6, hF⟩ := ob_s hF
    refine m_getR X hp e6 kX0 (Nat.le_of_ble_eq_true rfl) q463 dX0_comes_9 ?_
    obtain ⟨v7, e8, hF⟩ := ob_s hF
    refine m_getRN X hp e8 kX1 (Nat.le_of_ble_eq_true rfl) q378 dX0_comes_12 ?_
    refine lv_iload_n hx hb dX0_comes_15 rfl (lv_at hl 1 rfl) ?_
    obtain ⟨v9, e10, hF⟩ := ob_s hF
    refine m_aaR 104 X hp e10 rfl (by decide) rfl dX0_comes_16 ?_
    obtain ⟨g11, hF⟩ := gd_s hF
    obtain ⟨v13, e12, hF⟩ := ob_s hF
    refine m_callV (As := []) (rest := []) X hp (w_X4_isIn e12) q1023 q932 q933 q139 q934 0 rfl ds_X4_isIn ⟨Nat.le_of_ble_eq_true rfl, Nat.le_of_ble_eq_true rfl⟩ 5 (T := TX4) (N := 11) rfl (by decide) g11 hl.1 rfl (Nat.le_of_ble_eq_true rfl) dX0_comes_17 ⟨Nat.le_refl 0, Nat.le_refl 0⟩ (fun H locs hp => ?_)
    refine lv_if_ne (tgt := 42) hx hb dX0_comes_20 (by decide) (fun c14 => ?_) (fun c14 => ?_)
    · have hF := if_n c14 hF
      refine lv_iconst (v := 0) hx hb dX0_comes_42 (by decide) ?_
      cases hF
      exact m_zret X hp rfl dX0_comes_43
    · have hF := if_p c14 hF
      refine lv_iload_n hx hb dX0_comes_23 rfl (lv_at hl 2 rfl) ?_
      refine lv_iconst (v := 0) hx hb dX0_comes_24 (by decide) ?_
      refine lv_iconst (v := 3) hx hb dX0_comes_25 (by decide) ?_
      obtain ⟨v16, e15, hF⟩ := ob_s hF
      refine m_callS (As := [.int x2, .int (0 : Int32), .int (3 : Int32)]) (rest := []) X hp (w_X0_isIn e15) q565 q566 q132 q567 3 rfl ds_X0_isIn ⟨Nat.le_of_ble_eq_true rfl, Nat.le_of_ble_eq_true rfl⟩ hl.1 rfl (Nat.le_of_ble_eq_true rfl) dX0_comes_26 ⟨Nat.le_refl 0, Nat.le_refl 0⟩ (fun H locs hp => ?_)
      refine lv_if_eq (tgt := 42) hx hb dX0_comes_29 (by decide) (fun c17 => ?_) (fun c17 => ?_)
      · have hF := if_p c17 hF
        refine lv_iconst (v := 0) hx hb dX0_comes_42 (by decide) ?_
        cases hF
        exact m_zret X hp rfl dX0_comes_43
      · have hF := if_n c17 hF
        refine lv_iload_n hx hb dX0_comes_32 rfl (lv_at hl 3 rfl) ?_
        refine lv_iconst (v := 0) hx hb dX0_comes_33 (by decide) ?_
        refine lv_bipush (v := 11) hx hb dX0_comes_34 (by decide) ?_
        obtain ⟨v19, e18, hF⟩ := ob_s hF
        refine m_callS (As := [.int x3, .int (0 : Int32), .int (11 : Int32)]) (rest := []) X hp (w_X0_isIn e18) q565 q566 q132 q567 3 rfl ds_X0_isIn ⟨Nat.le_of_ble_eq_true rfl, Nat.le_of_ble_eq_true rfl⟩ hl.1 rfl (Nat.le_of_ble_eq_true rfl) dX0_comes_36 ⟨Nat.le_refl 0, Nat.le_refl 0⟩ (fun H locs hp => ?_)
        refine lv_if_ne (tgt := 44) hx hb dX0_comes_39 (by decide) (fun c20 => ?_) (fun c20 => ?_)
        · have hF := if_n c20 hF
          refine lv_iload_n hx hb dX0_comes_44 rfl (lv_at hl 2 rfl) ?_
          refine lv_iconst (v := 1) hx hb dX0_comes_45 (by decide) ?_
          refine lv_icmp_ne (tgt := 53) hx hb dX0_comes_46 (by decide) (fun c21 => ?_) (fun c21 => ?_)
          · have hF := if_n c21 hF
            refine lv_iload_n hx hb dX0_comes_53 rfl (lv_at hl 2 rfl) ?_
            refine lv_iconst (v := 3) hx hb dX0_comes_54 (by decide) ?_
            refine lv_icmp_ne (tgt := 63) hx hb dX0_comes_55 (by decide) (fun c22 => ?_) (fun c22 => ?_)
            · have hF := if_n c22 hF
              refine lv_iload_n hx hb dX0_comes_63 rfl (lv_at hl 3 rfl) ?_
              exact b_X0_comes_64 X _ _ _ _ _ _ _ _ _ hp (lv_sub hl [0, 1, 2, 3] rfl) hF
            · have hF := if_p c22 hF
              refine lv_bipush (v := 11) hx hb dX0_comes_58 (by decide) ?_
              refine lv_goto (tgt := 64) hx hb dX0_comes_60 (by decide) ?_
              exact b_X0_comes_64 X _ _ _ _ _ _ _ _ _ hp (lv_sub hl [0, 1, 2, 3] rfl) hF
          · have hF := if_p c21 hF
            refine lv_iconst (v := 0) hx hb dX0_comes_49 (by decide) ?_
            refine lv_goto (tgt := 64) hx hb dX0_comes_50 (by decide) ?_
            exact b_X0_comes_64 X _ _ _ _ _ _ _ _ _ hp (lv_sub hl [0, 1, 2, 3] rfl) hF
        · have hF := if_p c20 hF
          refine lv_iconst (v := 0) hx hb dX0_comes_42 (by decide) ?_
          cases hF
          exact m_zret X hp rfl dX0_comes_43
end
section
variable {l : Launch} {D : va_G} {n0 : Nat} {P : mP} {S : mSh} {M : mMm} {n : Nat} {p : Program} {e : Env} {s : State} {m : MethodId} {args : Array Value} {below : List Frame} {meth : Method} {c : Code}
abbrev Rm_X0_paces : Room := { frames := 1, cells := 0, slots := 0, locals := 22 }
def f_X0_paces (S : mSh) (M : mMm) (x0 : Nat) (x1 : Int32) (x2 : Int32) (x3 : Int32) : Option mMm := nm (((x1 - x1 / (121 : Int32) * (121 : Int32)) + x2)) fun v1 => nm (((x1 / (121 : Int32)) + x3)) fun v3 => ob (f_X0_isIn v1 (0 : Int32) (120 : Int32)) fun v6 => (if v6 = 0 then some M else ob (f_X0_isIn v3 (0 : Int32) (120 : Int32)) fun v9 => (if v9 = 0 then some M else ob (rR S M x0 1 16) fun v11 => ob (aI S M v11 100 (((121 : Int32) * v3) + v1)) fun v13 => (if v13 = (-1 : Int32) then ob (rR S M x0 1 16) fun v16 => ob (rR S M x0 1 16) fun v18 => ob (aI S M v18 100 x1) fun v20 => ob (wA S M v16 100 (((121 : Int32) * v3) + v1) (.int (v20 + (1 : Int32)))) fun M22 => ob (rR S M22 x0 1 17) fun v24 => ob (rI S M22 x0 1 18) fun v26 => ob (wA S M22 v24 100 v26 (.int (((121 : Int32) * v3) + v1))) fun M28 => ob (rI S M28 x0 1 18) fun v30 => ob (wF S M28 x0 1 18 (.int (v30 + (1 : Int32)))) fun M32 => some M32 else some M)))
theorem w_X0_paces {x0 : Nat} {x1 : Int32} {x2 : Int32} {x3 : Int32} {M' : mMm} (hF : f_X0_paces S M x0 x1 x2 x3 = some M') : mCt l D n0 P yX0_paces cX0_paces 6 none 1 22 0 0 [.ref x0, .int x1, .int x2, .int x3] S M n none S M' n := by
  refine m_ofW (by decide) (Nat.le_of_ble_eq_true rfl) (fun p e s m below meth c X hnm hp ls hl => ?_)
  have hx := X.1.1
  have hb := X.1.2.1
  have hown := X.1.2.2.2.1
  have hts := X.1.2.2.2.2
  have hl : lv_has ls 6 [(0, .ref x0), (1, .int x1), (2, .int x2), (3, .int x3)] := hl
  unfold f_X0_paces at hF
  refine lv_iload_n hx hb dX0_paces_0 rfl (lv_at hl 1 rfl) ?_
  refine lv_bipush (v := 121) hx hb dX0_paces_1 (by decide) ?_
  refine lv_irem hx hb dX0_paces_3 (by decide) ?_
  refine lv_iload_n hx hb dX0_paces_4 rfl (lv_at hl 2 rfl) ?_
  refine lv_iadd hx hb dX0_paces_5 ?_
  refine lv_topi (fun v1 ev2 => ?_)
  have hF := nm_s hF ev2
  refine lv_istore (lv' := [(4, .int v1), (0, .ref x0), (1, .int x1), (2, .int x2), (3, .int x3)]) hx hb dX0_paces_6 hl (by decide) rfl (fun ls hl => ?_)
  refine lv_iload_n hx hb dX0_paces_8 rfl (lv_at hl 2 rfl) ?_
  refine lv_bipush (v := 121) hx hb dX0_paces_9 (by decide) ?_
  refine lv_idiv hx hb dX0_paces_11 (by decide) ?_
  refine lv_iload_n hx hb dX0_paces_12 rfl (lv_at hl 4 rfl) ?_
  refine lv_iadd hx hb dX0_paces_13 ?_
  refine lv_topi (fun v3 ev4 => ?_)
  have hF := nm_s hF ev4
  refine lv_istore (lv' := [(5, .int v3), (4, .int v1), (0, .ref x0), (1, .int x1), (2, .int x2), (3, .int x3)]) hx hb dX0_paces_14 hl (by decide) rfl (fun ls hl => ?_)
  refine lv_iload hx hb dX0_paces_16 (lv_at hl 1 rfl) ?_
  refine lv_iconst (v := 0) hx hb dX0_paces_18 (by decide) ?_
  refine lv_bipush (v := 120) hx hb dX0_paces_19 (by decide) ?_
  obtain ⟨v6, e5, hF⟩ := ob_s hF
  refine m_callS (As := [.int v1, .int (0 : Int32), .int (120 : Int32)]) (rest := []) X hp (w_X0_isIn e5) q565 q566 q132 q567 3 rfl ds_X0_isIn ⟨Nat.le_of_ble_eq_true rfl, Nat.le_of_ble_eq_true rfl⟩ hl.1 rfl (Nat.le_of_ble_eq_true rfl) dX0_paces_21 ⟨Nat.le_refl 0, Nat.le_refl 0⟩ (fun H locs hp => ?_)
  refine lv_if_eq (tgt := 55) hx hb dX0_paces_24 (by decide) (fun c7 => ?_) (fun c7 => ?_)
  · have hF := if_p c7 hF
    cases hF
    exact m_vret X hp dX0_paces_55
  · have hF := if_n c7 hF
    refine lv_iload hx hb dX0_paces_27 (lv_at hl 0 rfl) ?_
    refine lv_iconst (v := 0) hx hb dX0_paces_29 (by decide) ?_
    refine lv_bipush (v := 120) hx hb dX0_paces_30 (by decide) ?_
    obtain ⟨v9, e8, hF⟩ := ob_s hF
    refine m_callS (As := [.int v3, .int (0 : Int32), .int (120 : Int32)]) (rest := []) X hp (w_X0_isIn e8) q565 q566 q132 q567 3 rfl ds_X0_isIn ⟨Nat.le_of_ble_eq_true rfl, Nat.le_of_ble_eq_true rfl⟩ hl.1 rfl (Nat.le_of_ble_eq_true rfl) dX0_paces_32 ⟨Nat.le_refl 0, Nat.le_refl 0⟩ (fun H locs hp => ?_)
    refine lv_if_eq (tgt := 55) hx hb dX0_paces_35 (by decide) (fun c10 => ?_) (fun c10 => ?_)
    · have hF := if_p c10 hF
      cases hF
      exact m_vret X hp dX0_paces_55
    · have hF := if_n c10 hF
      refine lv_aload_n hx hb dX0_paces_38 rfl (lv_at hl 2 rfl) ?_
      obtain ⟨v11, e12, hF⟩ := ob_s hF
      refine m_getR X hp e12 kX0 (Nat.le_of_ble_eq_true rfl) q476 dX0_paces_39 ?_
      refine lv_bipush (v := 121) hx hb dX0_paces_42 (by decide) ?_
      refine lv_iload hx hb dX0_paces_44 (lv_at hl 0 rfl) ?_
      refine lv_imul hx hb dX0_paces_46 ?_
      refine lv_iload hx hb dX0_paces_47 (lv_at hl 1 rfl) ?_
      refine lv_iadd hx hb dX0_paces_49 ?_
      obtain ⟨v13, e14, hF⟩ := ob_s hF
      refine m_iaI X hp e14 dX0_paces_50 ?_
      refine lv_iconst (v := -1) hx hb dX0_paces_51 (by decide) ?_
      refine lv_icmp_eq (tgt := 56) hx hb dX0_paces_52 (by decide) (fun c15 => ?_) (fun c15 => ?_)
      · have hF := if_p c15 hF
        refine lv_aload_n hx hb dX0_paces_56 rfl (lv_at hl 2 rfl) ?_
        obtain ⟨v16, e17, hF⟩ := ob_s hF
        refine m_getR X hp e17 kX0 (Nat.le_of_ble_eq_true rfl) q476 dX0_paces_57 ?_
        refine lv_bipush (v := 121) hx hb dX0_paces_60 (by decide) ?_
        refine lv_iload hx hb dX0_paces_62 (lv_at hl 0 rfl) ?_
        refine lv_imul hx hb dX0_paces_64 ?_
        refine lv_iload hx hb dX0_paces_65 (lv_at hl 1 rfl) ?_
        refine lv_iadd hx hb dX0_paces_67 ?_
        refine lv_aload_n hx hb dX0_paces_68 rfl (lv_at hl 2 rfl) ?_
        obtain ⟨v18, e19, hF⟩ := ob_s hF
        refine m_getR X hp e19 kX0 (Nat.le_of_ble_eq_true rfl) q476 dX0_paces_69 ?_
        refine lv_iload_n hx hb dX0_paces_72 rfl (lv_at hl 3 rfl) ?_
        obtain ⟨v20, e21, hF⟩ := ob_s hF
        refine m_iaI X hp e21 dX0_paces_73 ?_
        refine lv_iconst (v := 1) hx hb dX0_paces_74 (by decide) ?_
        refine lv_iadd hx hb dX0_paces_75 ?_
        obtain ⟨M22, e23, hF⟩ := ob_s hF
        refine m_iaW X hp e23 dX0_paces_76 (fun H locs hp => ?_)
        refine lv_aload_n hx hb dX0_paces_77 rfl (lv_at hl 2 rfl) ?_
        obtain ⟨v24, e25, hF⟩ := ob_s hF
        refine m_getR X hp e25 kX0 (Nat.le_of_ble_eq_true rfl) q477 dX0_paces_78 ?_
        refine lv_aload_n hx hb dX0_paces_81 rfl (lv_at hl 2 rfl) ?_
        obtain ⟨v26, e27, hF⟩ := ob_s hF
        refine m_getI X hp e27 kX0 (Nat.le_of_ble_eq_true rfl) q478 dX0_paces_82 ?_
        refine lv_bipush (v := 121) hx hb dX0_paces_85 (by decide) ?_
        refine lv_iload hx hb dX0_paces_87 (lv_at hl 0 rfl) ?_
        refine lv_imul hx hb dX0_paces_89 ?_
        refine lv_iload hx hb dX0_paces_90 (lv_at hl 1 rfl) ?_
        refine lv_iadd hx hb dX0_paces_92 ?_
        obtain ⟨M28, e29, hF⟩ := ob_s hF
        refine m_iaW X hp e29 dX0_paces_93 (fun H locs hp => ?_)
        refine lv_aload_n hx hb dX0_paces_94 rfl (lv_at hl 2 rfl) ?_
        refine lv_dup hx hb dX0_paces_95 rfl ?_
        obtain ⟨v30, e31, hF⟩ := ob_s hF
        refine m_getI X hp e31 kX0 (Nat.le_of_ble_eq_true rfl) q478 dX0_paces_96 ?_
        refine lv_iconst (v := 1) hx hb dX0_paces_99 (by decide) ?_
        refine lv_iadd hx hb dX0_paces_100 ?_
        obtain ⟨M32, e33, hF⟩ := ob_s hF
        refine m_putW X hp e33 kX0 (Nat.le_of_ble_eq_true rfl) q478 rfl rfl rfl dX0_paces_101 (fun H locs hp => ?_)
        cases hF
        exact m_vret X hp dX0_paces_104
      · have hF := if_n c15 hF
        cases hF
        exact m_vret X hp dX0_paces_55
end
section
variable {l : Launch} {D : va_G} {n0 : Nat} {P : mP} {S : mSh} {M : mMm} {n : Nat} {p : Program} {e : Env} {s : State} {m : MethodId} {args : Array Value} {below : List Frame} {meth : Method} {c : Code}
abbrev Rm_X0_duel : Room := { frames := 2, cells := 0, slots := 0, locals := 47 }
def fb_X0_duel_169 (S : mSh) (k137 : mMm → Nat → Int32 → Int32 → Int32 → Int32 → Int32 → Int32 → Option (Int32 × mMm)) (M : mMm) (x0 : Nat) (x2 : Int32) (x3 : Int32) (x4 : Int32) (x5 : Int32) (x6 : Int32) (x7 : Int32) (x8 : Int32) (y0 : Int32) : Option (Int32 × mMm) := ob (rR S M x0 1 17) fun v63 => ob (aI S M v63 100 x6) fun v65 => ob (f_X0_paces S M x0 v65 (x8 * x4) (y0 * x5)) fun M69 => ob (rR S M69 x0 1 17) fun v70 => ob (aI S M69 v70 100 x6) fun v72 => ob (f_X0_paces S M69 x0 v72 (x8 * x5) (y0 * x4)) fun M76 => nm (x7 + (1 : Int32)) fun v77 => (k137 M76 x0 x2 x3 x4 x5 x6 v77)
theorem b_X0_duel_169 {r : Int32} {M' : mMm} (X : mCx D n0 P p m c cX0_duel 10 s args yX0_duel.cls meth (some .int)) (k137 : mMm → Nat → Int32 → Int32 → Int32 → Int32 → Int32 → Int32 → Option (Int32 × mMm)) (hk137 : ∀ (M : mMm) (x0 : Nat) (x2 : Int32) (x3 : Int32) (x4 : Int32) (x5 : Int32) (x6 : Int32) (x7 : Int32) (H : Heap) (locs : List Loc) (ls : Array Slot), mHp D n0 S M n s H locs → lv_has ls 10 [(0, .ref x0), (2, .int x2), (3, .int x3), (4, .int x4), (5, .int x5), (6, .int x6), (7, .int x7)] → k137 M x0 x2 x3 x4 x5 x6 x7 = some (r, M') → W p l e Rm_X0_duel s m args below meth c H locs 0 0 (MQ below (mQ D n0 (some (.int r)) S M' n) args s 0 0 (mA n0)) (F0 m 137 ls [])) : ∀ (M : mMm) (x0 : Nat) (x2 : Int32) (x3 : Int32) (x4 : Int32) (x5 : Int32) (x6 : Int32) (x7 : Int32) (x8 : Int32) (y0 : Int32) (H : Heap) (locs : List Loc) (ls : Array Slot), mHp D n0 S M n s H locs → lv_has ls 10 [(0, .ref x0), (2, .int x2), (3, .int x3), (4, .int x4), (5, .int x5), (6, .int x6), (7, .int x7), (8, .int x8)] → fb_X0_duel_169 S k137 M x0 x2 x3 x4 x5 x6 x7 x8 y0 = some (r, M') → W p l e Rm_X0_duel s m args below meth c H locs 0 0 (MQ below (mQ D n0 (some (.int r)) S M' n) args s 0 0 (mA n0)) (F0 m 169 ls [.int y0]) := by
  have hx := X.1.1
  have hb := X.1.2.1
  have hown := X.1.2.2.2.1
  have hts := X.1.2.2.2.2
  intro M x0 x2 x3 x4 x5 x6 x7 x8 y0 H locs ls hp hl hF
  unfold fb_X0_duel_169 at hF
  refine lv_istore (lv' := [(9, .int y0), (0, .ref x0), (2, .int x2), (3, .int x3), (4, .int x4), (5, .int x5), (6, .int x6), (7, .int x7), (8, .int x8)]) hx hb dX0_duel_169 hl (by decide) rfl (fun ls hl => ?_)
  refine lv_aload_n hx hb dX0_duel_171 rfl (lv_at hl 1 rfl) ?_
  refine lv_aload_n hx hb dX0_duel_172 rfl (lv_at hl 1 rfl) ?_
  obtain ⟨v63, e64, hF⟩ := ob_s hF
  refine m_getR X hp e64 kX0 (Nat.le_of_ble_eq_true rfl) q477 dX0_duel_173 ?_
  refine lv_iload hx hb dX0_duel_176 (lv_at hl 6 rfl) ?_
  obtain ⟨v65, e66, hF⟩ := ob_s hF
  refine m_iaI X hp e66 dX0_duel_178 ?_
  refine lv_iload hx hb dX0_duel_179 (lv_at hl 8 rfl) ?_
  refine lv_iload hx hb dX0_duel_181 (lv_at hl 4 rfl) ?_
  refine lv_imul hx hb dX0_duel_183 ?_
  refine lv_iload hx hb dX0_duel_184 (lv_at hl 0 rfl) ?_
  refine lv_iload hx hb dX0_duel_186 (lv_at hl 5 rfl) ?_
  refine lv_imul hx hb dX0_duel_188 ?_
  obtain ⟨M69, e67, hF⟩ := ob_s hF
  refine m_callV (As := [.int v65, .int (x8 * x4), .int (y0 * x5)]) (rest := []) X hp (w_X0_paces e67) q1337 q1339 qs52 q132 q1340 3 rfl ds_X0_paces ⟨Nat.le_of_ble_eq_true rfl, Nat.le_of_ble_eq_true rfl⟩ 1 (T := TX0) (N := 30) rfl (by decide) (rR_s e64).1 hl.1 rfl (Nat.le_of_ble_eq_true rfl) dX0_duel_189 ⟨Nat.le_refl 0, Nat.le_refl 0⟩ (fun H locs hp => ?_)
  refine lv_aload_n hx hb dX0_duel_192 rfl (lv_at hl 1 rfl) ?_
  refine lv_aload_n hx hb dX0_duel_193 rfl (lv_at hl 1 rfl) ?_
  obtain ⟨v70, e71, hF⟩ := ob_s hF
  refine m_getR X hp e71 kX0 (Nat.le_of_ble_eq_true rfl) q477 dX0_duel_194 ?_
  refine lv_iload hx hb dX0_duel_197 (lv_at hl 6 rfl) ?_
  obtain ⟨v72, e73, hF⟩ := ob_s hF
  refine m_iaI X hp e73 dX0_duel_199 ?_
  refine lv_iload hx hb dX0_duel_200 (lv_at hl 8 rfl) ?_
  refine lv_iload hx hb dX0_duel_202 (lv_at hl 5 rfl) ?_
  refine lv_imul hx hb dX0_duel_204 ?_
  refine lv_iload hx hb dX0_duel_205 (lv_at hl 0 rfl) ?_
  refine lv_iload hx hb dX0_duel_207 (lv_at hl 4 rfl) ?_
  refine lv_imul hx hb dX0_duel_209 ?_
  obtain ⟨M76, e74, hF⟩ := ob_s hF
  refine m_callV (As := [.int v72, .int (x8 * x5), .int (y0 * x4)]) (rest := []) X hp (w_X0_paces e74) q1337 q1339 qs52 q132 q1340 3 rfl ds_X0_paces ⟨Nat.le_of_ble_eq_true rfl, Nat.le_of_ble_eq_true rfl⟩ 1 (T := TX0) (N := 30) rfl (by decide) (rR_s e71).1 hl.1 rfl (Nat.le_of_ble_eq_true rfl) dX0_duel_210 ⟨Nat.le_refl 0, Nat.le_refl 0⟩ (fun H locs hp => ?_)
  obtain ⟨v77, ev78⟩ : ∃ y : Int32, y = x7 + (1 : Int32) := ⟨_, rfl⟩
  have hF := nm_s hF ev78
  refine lv_iinc (v := v77) (lv' := [(7, .int v77), (9, .int y0), (0, .ref x0), (2, .int x2), (3, .int x3), (4, .int x4), (5, .int x5), (6, .int x6), (8, .int x8)]) hx hb dX0_duel_213 hl (k := 7) rfl (by rw [ev78]; rfl) (by decide) rfl (fun ls hl => ?_)
  refine lv_goto (tgt := 137) hx hb dX0_duel_216 (by decide) ?_
  exact hk137 _ _ _ _ _ _ _ _ _ _ _ hp (lv_sub hl [2, 3, 4, 5, 6, 7, 0] rfl) hF
def fb_X0_duel_155 (S : mSh) (k137 : mMm → Nat → Int32 → Int32 → Int32 → Int32 → Int32 → Int32 → Option (Int32 × mMm)) (M : mMm) (x0 : Nat) (x2 : Int32) (x3 : Int32) (x4 : Int32) (x5 : Int32) (x6 : Int32) (x7 : Int32) (y0 : Int32) : Option (Int32 × mMm) := (if (x7 / (2 : Int32)) = 0 then (fb_X0_duel_169 S k137 M x0 x2 x3 x4 x5 x6 x7 y0 (1 : Int32)) else (fb_X0_duel_169 S k137 M x0 x2 x3 x4 x5 x6 x7 y0 (-1 : Int32)))
theorem b_X0_duel_155 {r : Int32} {M' : mMm} (X : mCx D n0 P p m c cX0_duel 10 s args yX0_duel.cls meth (some .int)) (k137 : mMm → Nat → Int32 → Int32 → Int32 → Int32 → Int32 → Int32 → Option (Int32 × mMm)) (hk137 : ∀ (M : mMm) (x0 : Nat) (x2 : Int32) (x3 : Int32) (x4 : Int32) (x5 : Int32) (x6 : Int32) (x7 : Int32) (H : Heap) (locs : List Loc) (ls : Array Slot), mHp D n0 S M n s H locs → lv_has ls 10 [(0, .ref x0), (2, .int x2), (3, .int x3), (4, .int x4), (5, .int x5), (6, .int x6), (7, .int x7)] → k137 M x0 x2 x3 x4 x5 x6 x7 = some (r, M') → W p l e Rm_X0_duel s m args below meth c H locs 0 0 (MQ below (mQ D n0 (some (.int r)) S M' n) args s 0 0 (mA n0)) (F0 m 137 ls [])) : ∀ (M : mMm) (x0 : Nat) (x2 : Int32) (x3 : Int32) (x4 : Int32) (x5 : Int32) (x6 : Int32) (x7 : Int32) (y0 : Int32) (H : Heap) (locs : List Loc) (ls : Array Slot), mHp D n0 S M n s H locs → lv_has ls 10 [(0, .ref x0), (2, .int x2), (3, .int x3), (4, .int x4), (5, .int x5), (6, .int x6), (7, .int x7)] → fb_X0_duel_155 S k137 M x0 x2 x3 x4 x5 x6 x7 y0 = some (r, M') → W p l e Rm_X0_duel s m args below meth c H locs 0 0 (MQ below (mQ D n0 (some (.int r)) S M' n) args s 0 0 (mA n0)) (F0 m 155 ls [.int y0]) := by
  have hx := X.1.1
  have hb := X.1.2.1
  have hown := X.1.2.2.2.1
  have hts := X.1.2.2.2.2
  intro M x0 x2 x3 x4 x5 x6 x7 y0 H locs ls hp hl hF
  unfold fb_X0_duel_155 at hF
  refine lv_istore (lv' := [(8, .int y0), (0, .ref x0), (2, .int x2), (3, .int x3), (4, .int x4), (5, .int x5), (6, .int x6), (7, .int x7)]) hx hb dX0_duel_155 hl (by decide) rfl (fun ls hl => ?_)
  refine lv_iload hx hb dX0_duel_157 (lv_at hl 7 rfl) ?_
  refine lv_iconst (v := 2) hx hb dX0_duel_159 (by decide) ?_
  refine lv_idiv hx hb dX0_duel_160 (by decide) ?_
  refine lv_if_ne (tgt := 168) hx hb dX0_duel_161 (by decide) (fun c62 => ?_) (fun c62 => ?_)
  · have hF := if_n c62 hF
    refine lv_iconst (v := -1) hx hb dX0_duel_168 (by decide) ?_
    exact b_X0_duel_169 X _ hk137 _ _ _ _ _ _ _ _ _ _ _ _ _ hp (lv_sub hl [1, 2, 3, 4, 5, 6, 7, 0] rfl) hF
  · have hF := if_p c62 hF
    refine lv_iconst (v := 1) hx hb dX0_duel_164 (by decide) ?_
    refine lv_goto (tgt := 169) hx hb dX0_duel_165 (by decide) ?_
    exact b_X0_duel_169 X _ hk137 _ _ _ _ _ _ _ _ _ _ _ _ _ hp (lv_sub hl [1, 2, 3, 4, 5, 6, 7, 0] rfl) hF
def fb_X0_duel_137 (S : mSh) (k108 : mMm → Nat → Int32 → Int32 → Int32 → Int32 → Int32 → Option (Int32 × mMm)) : Nat → mMm → Nat → Int32 → Int32 → Int32 → Int32 → Int32 → Int32 → Option (Int32 × mMm)
  | 0, _, _, _, _, _, _, _, _ => none
  | t + 1, M, x0, x2, x3, x4, x5, x6, x7 => (if (4 : Int32) ≤ x7 then nm (x6 + (1 : Int32)) fun v59 => (k108 M x0 x2 x3 x4 x5 v59) else (if (x7 - x7 / (2 : Int32) * (2 : Int32)) = 0 then (fb_X0_duel_155 S (fb_X0_duel_137 S k108 t) M x0 x2 x3 x4 x5 x6 x7 (1 : Int32)) else (fb_X0_duel_155 S (fb_X0_duel_137 S k108 t) M x0 x2 x3 x4 x5 x6 x7 (-1 : Int32))))
theorem b_X0_duel_137 {r : Int32} {M' : mMm} (X : mCx D n0 P p m c cX0_duel 10 s args yX0_duel.cls meth (some .int)) (k108 : mMm → Nat → Int32 → Int32 → Int32 → Int32 → Int32 → Option (Int32 × mMm)) (hk108 : ∀ (M : mMm) (x0 : Nat) (x2 : Int32) (x3 : Int32) (x4 : Int32) (x5 : Int32) (x6 : Int32) (H : Heap) (locs : List Loc) (ls : Array Slot), mHp D n0 S M n s H locs → lv_has ls 10 [(0, .ref x0), (2, .int x2), (3, .int x3), (4, .int x4), (5, .int x5), (6, .int x6)] → k108 M x0 x2 x3 x4 x5 x6 = some (r, M') → W p l e Rm_X0_duel s m args below meth c H locs 0 0 (MQ below (mQ D n0 (some (.int r)) S M' n) args s 0 0 (mA n0)) (F0 m 108 ls [])) : ∀ t : Nat, ∀ (M : mMm) (x0 : Nat) (x2 : Int32) (x3 : Int32) (x4 : Int32) (x5 : Int32) (x6 : Int32) (x7 : Int32) (H : Heap) (locs : List Loc) (ls : Array Slot), mHp D n0 S M n s H locs → lv_has ls 10 [(0, .ref x0), (2, .int x2), (3, .int x3), (4, .int x4), (5, .int x5), (6, .int x6), (7, .int x7)] → fb_X0_duel_137 S k108 t M x0 x2 x3 x4 x5 x6 x7 = some (r, M') → W p l e Rm_X0_duel s m args below meth c H locs 0 0 (MQ below (mQ D n0 (some (.int r)) S M' n) args s 0 0 (mA n0)) (F0 m 137 ls []) := by
  have hx := X.1.1
  have hb := X.1.2.1
  have hown := X.1.2.2.2.1
  have hts := X.1.2.2.2.2
  intro t
  induction t with
  | zero =>
    intro M x0 x2 x3 x4 x5 x6 x7 H locs ls hp hl hF
    have hF : none = some (r, M') := hF
    cases hF
  | succ t ih =>
    intro M x0 x2 x3 x4 x5 x6 x7 H locs ls hp hl hF
    rw [fb_X0_duel_137] at hF
    refine lv_iload hx hb dX0_duel_137 (lv_at hl 6 rfl) ?_
    refine lv_iconst (v := 4) hx hb dX0_duel_139 (by decide) ?_
    refine lv_icmp_ge (tgt := 219) hx hb dX0_duel_140 (by decide) (fun c58 => ?_) (fun c58 => ?_)
    · have hF := if_p c58 hF
      obtain ⟨v59, ev60⟩ : ∃ y : Int32, y = x6 + (1 : Int32) := ⟨_, rfl⟩
      have hF := nm_s hF ev60
      refine lv_iinc (v := v59) (lv' := [(6, .int v59), (0, .ref x0), (2, .int x2), (3, .int x3), (4, .int x4), (5, .int x5), (7, .int x7)]) hx hb dX0_duel_219 hl (k := 5) rfl (by rw [ev60]; rfl) (by decide) rfl (fun ls hl => ?_)
      refine lv_goto (tgt := 108) hx hb dX0_duel_222 (by decide) ?_
      exact hk108 _ _ _ _ _ _ _ _ _ _ hp (lv_sub hl [1, 2, 3, 4, 5, 0] rfl) hF
    · have hF := if_n c58 hF
      refine lv_iload hx hb dX0_duel_143 (lv_at hl 6 rfl) ?_
      refine lv_iconst (v := 2) hx hb dX0_duel_145 (by decide) ?_
      refine lv_irem hx hb dX0_duel_146 (by decide) ?_
      refine lv_if_ne (tgt := 154) hx hb dX0_duel_147 (by decide) (fun c61 => ?_) (fun c61 => ?_)
      · have hF := if_n c61 hF
        refine lv_iconst (v := -1) hx hb dX0_duel_154 (by decide) ?_
        exact b_X0_duel_155 X _ ih _ _ _ _ _ _ _ _ _ _ _ _ hp (lv_sub hl [0, 1, 2, 3, 4, 5, 6] rfl) hF
      · have hF := if_p c61 hF
        refine lv_iconst (v := 1) hx hb dX0_duel_150 (by decide) ?_
        refine lv_goto (tgt := 155) hx hb dX0_duel_151 (by decide) ?_
        exact b_X0_duel_155 X _ ih _ _ _ _ _ _ _ _ _ _ _ _ hp (lv_sub hl [0, 1, 2, 3, 4, 5, 6] rfl) hF
def fb_X0_duel_225 (S : mSh) (M : mMm) (x0 : Nat) (x2 : Int32) (x3 : Int32) : Option (Int32 × mMm) := ob (rR S M x0 1 16) fun v79 => ob (aI S M v79 100 ((((121 : Int32) * ((60 : Int32) + x3)) + (60 : Int32)) + x2)) fun v81 => some (v81, M)
theorem b_X0_duel_225 {r : Int32} {M' : mMm} (X : mCx D n0 P p m c cX0_duel 10 s args yX0_duel.cls meth (some .int)) : ∀ (M : mMm) (x0 : Nat) (x2 : Int32) (x3 : Int32) (H : Heap) (locs : List Loc) (ls : Array Slot), mHp D n0 S M n s H locs → lv_has ls 10 [(0, .ref x0), (2, .int x2), (3, .int x3)] → fb_X0_duel_225 S M x0 x2 x3 = some (r, M') → W p l e Rm_X0_duel s m args below meth c H locs 0 0 (MQ below (mQ D n0 (some (.int r)) S M' n) args s 0 0 (mA n0)) (F0 m 225 ls []) := by
  have hx := X.1.1
  have hb := X.1.2.1
  have hown := X.1.2.2.2.1
  have hts := X.1.2.2.2.2
  intro M x0 x2 x3 H locs ls hp hl hF
  unfold fb_X0_duel_225 at hF
  refine lv_aload_n hx hb dX0_duel_225 rfl (lv_at hl 0 rfl) ?_
  obtain ⟨v79, e80, hF⟩ := ob_s hF
  refine m_getR X hp e80 kX0 (Nat.le_of_ble_eq_true rfl) q476 dX0_duel_226 ?_
  refine lv_bipush (v := 121) hx hb dX0_duel_229 (by decide) ?_
  refine lv_bipush (v := 60) hx hb dX0_duel_231 (by decide) ?_
  refine lv_iload_n hx hb dX0_duel_233 rfl (lv_at hl 2 rfl) ?_
  refine lv_iadd hx hb dX0_duel_234 ?_
  refine lv_imul hx hb dX0_duel_235 ?_
  refine lv_bipush (v := 60) hx hb dX0_duel_236 (by decide) ?_
  refine lv_iadd hx hb dX0_duel_238 ?_
  refine lv_iload_n hx hb dX0_duel_239 rfl (lv_at hl 1 rfl) ?_
  refine lv_iadd hx hb dX0_duel_240 ?_
  obtain ⟨v81, e82, hF⟩ := ob_s hF
  refine m_iaI X hp e82 dX0_duel_241 ?_
  cases hF
  exact m_iret X hp dX0_duel_242
def fb_X0_duel_108 (S : mSh) : Nat → mMm → Nat → Int32 → Int32 → Int32 → Int32 → Int32 → Option (Int32 × mMm)
  | 0, _, _, _, _, _, _, _ => none
  | t + 1, M, x0, x2, x3, x4, x5, x6 => ob (rI S M x0 1 18) fun v44 => (if v44 ≤ x6 then (fb_X0_duel_225 S M x0 x2 x3) else ob (rR S M x0 1 16) fun v47 => ob (rR S M x0 1 17) fun v49 => ob (aI S M v49 100 x6) fun v51 => ob (aI S M v47 100 v51) fun v53 => (if (12 : Int32) ≤ v53 then (fb_X0_duel_225 S M x0 x2 x3) else nm ((0 : Int32)) fun v56 => (fb_X0_duel_137 S (fb_X0_duel_108 S t) FU M x0 x2 x3 x4 x5 x6 v56)))
theorem b_X0_duel_108 {r : Int32} {M' : mMm} (X : mCx D n0 P p m c cX0_duel 10 s args yX0_duel.cls meth (some .int)) : ∀ t : Nat, ∀ (M : mMm) (x0 : Nat) (x2 : Int32) (x3 : Int32) (x4 : Int32) (x5 : Int32) (x6 : Int32) (H : Heap) (locs : List Loc) (ls : Array Slot), mHp D n0 S M n s H locs → lv_has ls 10 [(0, .ref x0), (2, .int x2), (3, .int x3), (4, .int x4), (5, .int x5), (6, .int x6)] → fb_X0_duel_108 S t M x0 x2 x3 x4 x5 x6 = some (r, M') → W p l e Rm_X0_duel s m args below meth c H locs 0 0 (MQ below (mQ D n0 (some (.int r)) S M' n) args s 0 0 (mA n0)) (F0 m 108 ls []) := by
  have hx := X.1.1
  have hb := X.1.2.1
  have hown := X.1.2.2.2.1
  have hts := X.1.2.2.2.2
  intro t
  induction t with
  | zero =>
    intro M x0 x2 x3 x4 x5 x6 H locs ls hp hl hF
    have hF : none = some (r, M') := hF
    cases hF
  | succ t ih =>
    intro M x0 x2 x3 x4 x5 x6 H locs ls hp hl hF
    rw [fb_X0_duel_108] at hF
    refine lv_iload hx hb dX0_duel_108 (lv_at hl 5 rfl) ?_
    refine lv_aload_n hx hb dX0_duel_110 rfl (lv_at hl 0 rfl) ?_
    obtain ⟨v44, e45, hF⟩ := ob_s hF
    refine m_getI X hp e45 kX0 (Nat.le_of_ble_eq_true rfl) q478 dX0_duel_111 ?_
    refine lv_icmp_ge (tgt := 225) hx hb dX0_duel_114 (by decide) (fun c46 => ?_) (fun c46 => ?_)
    · have hF := if_p c46 hF
      exact b_X0_duel_225 X _ _ _ _ _ _ _ hp (lv_sub hl [0, 1, 2] rfl) hF
    · have hF := if_n c46 hF
      refine lv_aload_n hx hb dX0_duel_117 rfl (lv_at hl 0 rfl) ?_
      obtain ⟨v47, e48, hF⟩ := ob_s hF
      refine m_getR X hp e48 kX0 (Nat.le_of_ble_eq_true rfl) q476 dX0_duel_118 ?_
      refine lv_aload_n hx hb dX0_duel_121 rfl (lv_at hl 0 rfl) ?_
      obtain ⟨v49, e50, hF⟩ := ob_s hF
      refine m_getR X hp e50 kX0 (Nat.le_of_ble_eq_true rfl) q477 dX0_duel_122 ?_
      refine lv_iload hx hb dX0_duel_125 (lv_at hl 5 rfl) ?_
      obtain ⟨v51, e52, hF⟩ := ob_s hF
      refine m_iaI X hp e52 dX0_duel_127 ?_
      obtain ⟨v53, e54, hF⟩ := ob_s hF
      refine m_iaI X hp e54 dX0_duel_128 ?_
      refine lv_bipush (v := 12) hx hb dX0_duel_129 (by decide) ?_
      refine lv_icmp_ge (tgt := 225) hx hb dX0_duel_131 (by decide) (fun c55 => ?_) (fun c55 => ?_)
      · have hF := if_p c55 hF
        exact b_X0_duel_225 X _ _ _ _ _ _ _ hp (lv_sub hl [0, 1, 2] rfl) hF
      · have hF := if_n c55 hF
        refine lv_iconst (v := 0) hx hb dX0_duel_134 (by decide) ?_
        refine lv_topi (fun v56 ev57 => ?_)
        have hF := nm_s hF ev57
        refine lv_istore (lv' := [(7, .int v56), (0, .ref x0), (2, .int x2), (3, .int x3), (4, .int x4), (5, .int x5), (6, .int x6)]) hx hb dX0_duel_135 hl (by decide) rfl (fun ls hl => ?_)
        exact b_X0_duel_137 X _ ih _ _ _ _ _ _ _ _ _ _ _ _ hp (lv_sub hl [1, 2, 3, 4, 5, 6, 0] rfl) hF
def fb_X0_duel_55 (S : mSh) : Nat → mMm → Nat → Int32 → Int32 → Int32 → Int32 → Int32 → Option (Int32 × mMm)
  | 0, _, _, _, _, _, _, _ => none
  | t + 1, M, x0, x2, x3, x4, x5, x6 => ob (rR S M x0 1 16) fun v17 => ob (aN S v17 100) fun v19 => (if v19 ≤ x6 then ob (rR S M x0 1 17) fun v22 => ob (wA S M v22 100 (0 : Int32) (.int (7320 : Int32))) fun M24 => ob (rR S M24 x0 1 16) fun v26 => ob (rR S M24 x0 1 17) fun v28 => ob (aI S M24 v28 100 (0 : Int32)) fun v30 => ob (wA S M24 v26 100 v30 (.int (0 : Int32))) fun M32 => ob (wF S M32 x0 1 18 (.int (1 : Int32))) fun M34 => nm ((0 : Int32)) fun v36 => (fb_X0_duel_108 S FU M34 x0 x2 x3 x4 x5 v36) else ob (rR S M x0 1 16) fun v38 => ob (wA S M v38 100 x6 (.int (-1 : Int32))) fun M40 => nm (x6 + (1 : Int32)) fun v42 => (fb_X0_duel_55 S t M40 x0 x2 x3 x4 x5 v42))
theorem b_X0_duel_55 {r : Int32} {M' : mMm} (X : mCx D n0 P p m c cX0_duel 10 s args yX0_duel.cls meth (some .int)) : ∀ t : Nat, ∀ (M : mMm) (x0 : Nat) (x2 : Int32) (x3 : Int32) (x4 : Int32) (x5 : Int32) (x6 : Int32) (H : Heap) (locs : List Loc) (ls : Array Slot), mHp D n0 S M n s H locs → lv_has ls 10 [(0, .ref x0), (2, .int x2), (3, .int x3), (4, .int x4), (5, .int x5), (6, .int x6)] → fb_X0_duel_55 S t M x0 x2 x3 x4 x5 x6 = some (r, M') → W p l e Rm_X0_duel s m args below meth c H locs 0 0 (MQ below (mQ D n0 (some (.int r)) S M' n) args s 0 0 (mA n0)) (F0 m 55 ls []) := by
  have hx := X.1.1
  have hb := X.1.2.1
  have hown := X.1.2.2.2.1
  have hts := X.1.2.2.2.2
  intro t
  induction t with
  | zero =>
    intro M x0 x2 x3 x4 x5 x6 H locs ls hp hl hF
    have hF : none = some (r, M') := hF
    cases hF
  | succ t ih =>
    intro M x0 x2 x3 x4 x5 x6 H locs ls hp hl hF
    rw [fb_X0_duel_55] at hF
    refine lv_iload hx hb dX0_duel_55 (lv_at hl 5 rfl) ?_
    refine lv_aload_n hx hb dX0_duel_57 rfl (lv_at hl 0 rfl) ?_
    obtain ⟨v17, e18, hF⟩ := ob_s hF
    refine m_getR X hp e18 kX0 (Nat.le_of_ble_eq_true rfl) q476 dX0_duel_58 ?_
    obtain ⟨v19, e20, hF⟩ := ob_s hF
    refine m_aln 100 X hp e20 rfl (by decide) dX0_duel_61 ?_
    refine lv_icmp_ge (tgt := 79) hx hb dX0_duel_62 (by decide) (fun c21 => ?_) (fun c21 => ?_)
    · have hF := if_p c21 hF
      refine lv_aload_n hx hb dX0_duel_79 rfl (lv_at hl 0 rfl) ?_
      obtain ⟨v22, e23, hF⟩ := ob_s hF
      refine m_getR X hp e23 kX0 (Nat.le_of_ble_eq_true rfl) q477 dX0_duel_80 ?_
      refine lv_iconst (v := 0) hx hb dX0_duel_83 (by decide) ?_
      refine lv_sipush (v := 7320) hx hb dX0_duel_84 (by decide) ?_
      obtain ⟨M24, e25, hF⟩ := ob_s hF
      refine m_iaW X hp e25 dX0_duel_87 (fun H locs hp => ?_)
      refine lv_aload_n hx hb dX0_duel_88 rfl (lv_at hl 0 rfl) ?_
      obtain ⟨v26, e27, hF⟩ := ob_s hF
      refine m_getR X hp e27 kX0 (Nat.le_of_ble_eq_true rfl) q476 dX0_duel_89 ?_
      refine lv_aload_n hx hb dX0_duel_92 rfl (lv_at hl 0 rfl) ?_
      obtain ⟨v28, e29, hF⟩ := ob_s hF
      refine m_getR X hp e29 kX0 (Nat.le_of_ble_eq_true rfl) q477 dX0_duel_93 ?_
      refine lv_iconst (v := 0) hx hb dX0_duel_96 (by decide) ?_
      obtain ⟨v30, e31, hF⟩ := ob_s hF
      refine m_iaI X hp e31 dX0_duel_97 ?_
      refine lv_iconst (v := 0) hx hb dX0_duel_98 (by decide) ?_
      obtain ⟨M32, e33, hF⟩ := ob_s hF
      refine m_iaW X hp e33 dX0_duel_99 (fun H locs hp => ?_)
      refine lv_aload_n hx hb dX0_duel_100 rfl (lv_at hl 0 rfl) ?_
      refine lv_iconst (v := 1) hx hb dX0_duel_101 (by decide) ?_
      obtain ⟨M34, e35, hF⟩ := ob_s hF
      refine m_putW X hp e35 kX0 (Nat.le_of_ble_eq_true rfl) q478 rfl rfl rfl dX0_duel_102 (fun H locs hp => ?_)
      refine lv_iconst (v := 0) hx hb dX0_duel_105 (by decide) ?_
      refine lv_topi (fun v36 ev37 => ?_)
      have hF := nm_s hF ev37
      refine lv_istore (lv' := [(6, .int v36), (0, .ref x0), (2, .int x2), (3, .int x3), (4, .int x4), (5, .int x5)]) hx hb dX0_duel_106 hl (by decide) rfl (fun ls hl => ?_)
      exact b_X0_duel_108 X _ _ _ _ _ _ _ _ _ _ _ hp (lv_sub hl [1, 2, 3, 4, 5, 0] rfl) hF
    · have hF := if_n c21 hF
      refine lv_aload_n hx hb dX0_duel_65 rfl (lv_at hl 0 rfl) ?_
      obtain ⟨v38, e39, hF⟩ := ob_s hF
      refine m_getR X hp e39 kX0 (Nat.le_of_ble_eq_true rfl) q476 dX0_duel_66 ?_
      refine lv_iload hx hb dX0_duel_69 (lv_at hl 5 rfl) ?_
      refine lv_iconst (v := -1) hx hb dX0_duel_71 (by decide) ?_
      obtain ⟨M40, e41, hF⟩ := ob_s hF
      refine m_iaW X hp e41 dX0_duel_72 (fun H locs hp => ?_)
      obtain ⟨v42, ev43⟩ : ∃ y : Int32, y = x6 + (1 : Int32) := ⟨_, rfl⟩
      have hF := nm_s hF ev43
      refine lv_iinc (v := v42) (lv' := [(6, .int v42), (0, .ref x0), (2, .int x2), (3, .int x3), (4, .int x4), (5, .int x5)]) hx hb dX0_duel_73 hl (k := 5) rfl (by rw [ev43]; rfl) (by decide) rfl (fun ls hl => ?_)
      refine lv_goto (tgt := 55) hx hb dX0_duel_76 (by decide) ?_
      exact ih _ _ _ _ _ _ _ _ _ _ hp (lv_sub hl [1, 2, 3, 4, 5, 0] rfl) hF
def f_X0_duel (S : mSh) (M : mMm) (x0 : Nat) (x1 : Int32) (x2 : Int32) (x3 : Int32) : Option (Int32 × mMm) := nm ((x1 / (10 : Int32))) fun v1 => nm ((x1 - x1 / (10 : Int32) * (10 : Int32))) fun v3 => ob (f_X0_isIn x1 (1 : Int32) (55 : Int32)) fun v6 => (if v6 = 0 then some ((-1 : Int32), M) else (if (5 : Int32) < v3 then some ((-1 : Int32), M) else ob (f_X0_isIn x2 (-20 : Int32) (20 : Int32)) fun v10 => (if v10 = 0 then some ((-1 : Int32), M) else ob (f_X0_isIn x3 (-20 : Int32) (20 : Int32)) fun v13 => (if v13 = 0 then some ((-1 : Int32), M) else nm ((0 : Int32)) fun v15 => (fb_X0_duel_55 S FU M x0 x2 x3 v1 v3 v15)))))
theorem w_X0_duel {x0 : Nat} {x1 : Int32} {x2 : Int32} {x3 : Int32} {r : Int32} {M' : mMm} (hF : f_X0_duel S M x0 x1 x2 x3 = some (r, M')) : mCt l D n0 P yX0_duel cX0_duel 10 (some .int) 2 47 0 0 [.ref x0, .int x1, .int x2, .int x3] S M n (some (.int r)) S M' n := by
  refine m_ofW (by decide) (Nat.le_of_ble_eq_true rfl) (fun p e s m below meth c X hnm hp ls hl => ?_)
  have hx := X.1.1
  have hb := X.1.2.1
  have hown := X.1.2.2.2.1
  have hts := X.1.2.2.2.2
  have hl : lv_has ls 10 [(0, .ref x0), (1, .int x1), (2, .int x2), (3, .int x3)] := hl
  unfold f_X0_duel at hF
  refine lv_iload_n hx hb dX0_duel_0 rfl (lv_at hl 1 rfl) ?_
  refine lv_bipush (v := 10) hx hb dX0_duel_1 (by decide) ?_
  refine lv_idiv hx hb dX0_duel_3 (by decide) ?_
  refine lv_topi (fun v1 ev2 => ?_)
  have hF := nm_s hF ev2
  refine lv_istore (lv' := [(4, .int v1), (0, .ref x0), (1, .int x1), (2, .int x2), (3, .int x3)]) hx hb dX0_duel_4 hl (by decide) rfl (fun ls hl => ?_)
  refine lv_iload_n hx hb dX0_duel_6 rfl (lv_at hl 2 rfl) ?_
  refine lv_bipush (v := 10) hx hb dX0_duel_7 (by decide) ?_
  refine lv_irem hx hb dX0_duel_9 (by decide) ?_
  refine lv_topi (fun v3 ev4 => ?_)
  have hF := nm_s hF ev4
  refine lv_istore (lv' := [(5, .int v3), (4, .int v1), (0, .ref x0), (1, .int x1), (2, .int x2), (3, .int x3)]) hx hb dX0_duel_10 hl (by decide) rfl (fun ls hl => ?_)
  refine lv_iload_n hx hb dX0_duel_12 rfl (lv_at hl 3 rfl) ?_
  refine lv_iconst (v := 1) hx hb dX0_duel_13 (by decide) ?_
  refine lv_bipush (v := 55) hx hb dX0_duel_14 (by decide) ?_
  obtain ⟨v6, e5, hF⟩ := ob_s hF
  refine m_callS (As := [.int x1, .int (1 : Int32), .int (55 : Int32)]) (rest := []) X hp (w_X0_isIn e5) q565 q566 q132 q567 3 rfl ds_X0_isIn ⟨Nat.le_of_ble_eq_true rfl, Nat.le_of_ble_eq_true rfl⟩ hl.1 rfl (Nat.le_of_ble_eq_true rfl) dX0_duel_16 ⟨Nat.le_refl 0, Nat.le_refl 0⟩ (fun H locs hp => ?_)
  refine lv_if_eq (tgt := 50) hx hb dX0_duel_19 (by decide) (fun c7 => ?_) (fun c7 => ?_)
  · have hF := if_p c7 hF
    refine lv_iconst (v := -1) hx hb dX0_duel_50 (by decide) ?_
    cases hF
    exact m_iret X hp dX0_duel_51
  · have hF := if_n c7 hF
    refine lv_iload hx hb dX0_duel_22 (lv_at hl 0 rfl) ?_
    refine lv_iconst (v := 5) hx hb dX0_duel_24 (by decide) ?_
    refine lv_icmp_gt (tgt := 50) hx hb dX0_duel_25 (by decide) (fun c8 => ?_) (fun c8 => ?_)
    · have hF := if_p c8 hF
      refine lv_iconst (v := -1) hx hb dX0_duel_50 (by decide) ?_
      cases hF
      exact m_iret X hp dX0_duel_51
    · have hF := if_n c8 hF
      refine lv_iload_n hx hb dX0_duel_28 rfl (lv_at hl 4 rfl) ?_
      refine lv_bipush (v := -20) hx hb dX0_duel_29 (by decide) ?_
      refine lv_bipush (v := 20) hx hb dX0_duel_31 (by decide) ?_
      obtain ⟨v10, e9, hF⟩ := ob_s hF
      refine m_callS (As := [.int x2, .int (-20 : Int32), .int (20 : Int32)]) (rest := []) X hp (w_X0_isIn e9) q565 q566 q132 q567 3 rfl ds_X0_isIn ⟨Nat.le_of_ble_eq_true rfl, Nat.le_of_ble_eq_true rfl⟩ hl.1 rfl (Nat.le_of_ble_eq_true rfl) dX0_duel_33 ⟨Nat.le_refl 0, Nat.le_refl 0⟩ (fun H locs hp => ?_)
      refine lv_if_eq (tgt := 50) hx hb dX0_duel_36 (by decide) (fun c11 => ?_) (fun c11 => ?_)
      · have hF := if_p c11 hF
        refine lv_iconst (v := -1) hx hb dX0_duel_50 (by decide) ?_
        cases hF
        exact m_iret X hp dX0_duel_51
      · have hF := if_n c11 hF
        refine lv_iload_n hx hb dX0_duel_39 rfl (lv_at hl 5 rfl) ?_
        refine lv_bipush (v := -20) hx hb dX0_duel_40 (by decide) ?_
        refine lv_bipush (v := 20) hx hb dX0_duel_42 (by decide) ?_
        obtain ⟨v13, e12, hF⟩ := ob_s hF
        refine m_callS (As := [.int x3, .int (-20 : Int32), .int (20 : Int32)]) (rest := []) X hp (w_X0_isIn e12) q565 q566 q132 q567 3 rfl ds_X0_isIn ⟨Nat.le_of_ble_eq_true rfl, Nat.le_of_ble_eq_true rfl⟩ hl.1 rfl (Nat.le_of_ble_eq_true rfl) dX0_duel_44 ⟨Nat.le_refl 0, Nat.le_refl 0⟩ (fun H locs hp => ?_)
        refine lv_if_ne (tgt := 52) hx hb dX0_duel_47 (by decide) (fun c14 => ?_) (fun c14 => ?_)
        · have hF := if_n c14 hF
          refine lv_iconst (v := 0) hx hb dX0_duel_52 (by decide) ?_
          refine lv_topi (fun v15 ev16 => ?_)
          have hF := nm_s hF ev16
          refine lv_istore (lv' := [(6, .int v15), (5, .int v3), (4, .int v1), (0, .ref x0), (1, .int x1), (2, .int x2), (3, .int x3)]) hx hb dX0_duel_53 hl (by decide) rfl (fun ls hl => ?_)
          exact b_X0_duel_55 X _ _ _ _ _ _ _ _ _ _ _ hp (lv_sub hl [3, 5, 6, 2, 1, 0] rfl) hF
        · have hF := if_p c14 hF
          refine lv_iconst (v := -1) hx hb dX0_duel_50 (by decide) ?_
          cases hF
          exact m_iret X hp dX0_duel_51
end
section
variable {l : Launch} {D : va_G} {n0 : Nat} {P : mP} {S : mSh} {M : mMm} {n : Nat} {p : Program} {e : Env} {s : State} {m : MethodId} {args : Array Value} {below : List Frame} {meth : Method} {c : Code}
abbrev Rm_X0_end : Room := { frames := 1, cells := 0, slots := 0, locals := 22 }
def f_X0_end (S : mSh) (M : mMm) (x0 : Nat) (x1 : Int32) : Option (Int32 × mMm) := ob (rI S M x0 1 1) fun v1 => ob (f_X0_isIn x1 (0 : Int32) v1) fun v4 => (if v4 = 0 then some ((0 : Int32), M) else ob (wF S M x0 1 1 (.int x1)) fun M6 => some ((1 : Int32), M6))
theorem w_X0_end {x0 : Nat} {x1 : Int32} {r : Int32} {M' : mMm} (hF : f_X0_end S M x0 x1 = some (r, M')) : mCt l D n0 P yX0_end cX0_end 2 (some .boolean) 1 22 0 0 [.ref x0, .int x1] S M n (some (.int r)) S M' n := by
  refine m_ofW (by decide) (Nat.le_of_ble_eq_true rfl) (fun p e s m below meth c X hnm hp ls hl => ?_)
  have hx := X.1.1
  have hb := X.1.2.1
  have hown := X.1.2.2.2.1
  have hts := X.1.2.2.2.2
  have hl : lv_has ls 2 [(0, .ref x0), (1, .int x1)] := hl
  unfold f_X0_end at hF
  refine lv_iload_n hx hb dX0_end_0 rfl (lv_at hl 1 rfl) ?_
  refine lv_iconst (v := 0) hx hb dX0_end_1 (by decide) ?_
  refine lv_aload_n hx hb dX0_end_2 rfl (lv_at hl 0 rfl) ?_
  obtain ⟨v1, e2, hF⟩ := ob_s hF
  refine m_getI X hp e2 kX0 (Nat.le_of_ble_eq_true rfl) q460 dX0_end_3 ?_
  obtain ⟨v4, e3, hF⟩ := ob_s hF
  refine m_callS (As := [.int x1, .int (0 : Int32), .int v1]) (rest := []) X hp (w_X0_isIn e3) q565 q566 q132 q567 3 rfl ds_X0_isIn ⟨Nat.le_of_ble_eq_true rfl, Nat.le_of_ble_eq_true rfl⟩ hl.1 rfl (Nat.le_of_ble_eq_true rfl) dX0_end_6 ⟨Nat.le_refl 0, Nat.le_refl 0⟩ (fun H locs hp => ?_)
  refine lv_if_ne (tgt := 14) hx hb dX0_end_9 (by decide) (fun c5 => ?_) (fun c5 => ?_)
  · have hF := if_n c5 hF
    refine lv_aload_n hx hb dX0_end_14 rfl (lv_at hl 0 rfl) ?_
    refine lv_iload_n hx hb dX0_end_15 rfl (lv_at hl 1 rfl) ?_
    obtain ⟨M6, e7, hF⟩ := ob_s hF
    refine m_putW X hp e7 kX0 (Nat.le_of_ble_eq_true rfl) q460 rfl rfl rfl dX0_end_16 (fun H locs hp => ?_)
    refine lv_iconst (v := 1) hx hb dX0_end_19 (by decide) ?_
    cases hF
    exact m_zret X hp rfl dX0_end_20
  · have hF := if_p c5 hF
    refine lv_iconst (v := 0) hx hb dX0_end_12 (by decide) ?_
    cases hF
    exact m_zret X hp rfl dX0_end_13
end
section
variable {l : Launch} {D : va_G} {n0 : Nat} {P : mP} {S : mSh} {M : mMm} {n : Nat} {p : Program} {e : Env} {s : State} {m : MethodId} {args : Array Value} {below : List Frame} {meth : Method} {c : Code}
abbrev Rm_X0_reaches : Room := { frames := 0, cells := 0, slots := 0, locals := 0 }
def f_X0_reaches (S : mSh) (M : mMm) (x0 : Nat) (x1 : Int32) (x2 : Int32) : Option mMm := ob (rR S M x0 1 10) fun v1 => ob (aI S M v1 100 x1) fun v3 => (if x2 < v3 then ob (rR S M x0 1 10) fun v6 => ob (wA S M v6 100 x1 (.int x2)) fun M8 => ob (rR S M8 x0 1 11) fun v10 => ob (rI S M8 x0 1 12) fun v12 => ob (wA S M8 v10 100 v12 (.int x1)) fun M14 => ob (rI S M14 x0 1 12) fun v16 => ob (wF S M14 x0 1 12 (.int (v16 + (1 : Int32)))) fun M18 => some M18 else some M)
theorem w_X0_reaches {x0 : Nat} {x1 : Int32} {x2 : Int32} {M' : mMm} (hF : f_X0_reaches S M x0 x1 x2 = some M') : mCt l D n0 P yX0_reaches cX0_reaches 3 none 0 0 0 0 [.ref x0, .int x1, .int x2] S M n none S M' n := by
  refine m_ofW (by decide) (Nat.le_of_ble_eq_true rfl) (fun p e s m below meth c X hnm hp ls hl => ?_)
  have hx := X.1.1
  have hb := X.1.2.1
  have hown := X.1.2.2.2.1
  have hts := X.1.2.2.2.2
  have hl : lv_has ls 3 [(0, .ref x0), (1, .int x1), (2, .int x2)] := hl
  unfold f_X0_reaches at hF
  refine lv_aload_n hx hb dX0_reaches_0 rfl (lv_at hl 0 rfl) ?_
  obtain ⟨v1, e2, hF⟩ := ob_s hF
  refine m_getR X hp e2 kX0 (Nat.le_of_ble_eq_true rfl) q470 dX0_reaches_1 ?_
  refine lv_iload_n hx hb dX0_reaches_4 rfl (lv_at hl 1 rfl) ?_
  obtain ⟨v3, e4, hF⟩ := ob_s hF
  refine m_iaI X hp e4 dX0_reaches_5 ?_
  refine lv_iload_n hx hb dX0_reaches_6 rfl (lv_at hl 2 rfl) ?_
  refine lv_icmp_gt (tgt := 11) hx hb dX0_reaches_7 (by decide) (fun c5 => ?_) (fun c5 => ?_)
  · have hF := if_p c5 hF
    refine lv_aload_n hx hb dX0_reaches_11 rfl (lv_at hl 0 rfl) ?_
    obtain ⟨v6, e7, hF⟩ := ob_s hF
    refine m_getR X hp e7 kX0 (Nat.le_of_ble_eq_true rfl) q470 dX0_reaches_12 ?_
    refine lv_iload_n hx hb dX0_reaches_15 rfl (lv_at hl 1 rfl) ?_
    refine lv_iload_n hx hb dX0_reaches_16 rfl (lv_at hl 2 rfl) ?_
    obtain ⟨M8, e9, hF⟩ := ob_s hF
    refine m_iaW X hp e9 dX0_reaches_17 (fun H locs hp => ?_)
    refine lv_aload_n hx hb dX0_reaches_18 rfl (lv_at hl 0 rfl) ?_
    obtain ⟨v10, e11, hF⟩ := ob_s hF
    refine m_getR X hp e11 kX0 (Nat.le_of_ble_eq_true rfl) q471 dX0_reaches_19 ?_
    refine lv_aload_n hx hb dX0_reaches_22 rfl (lv_at hl 0 rfl) ?_
    obtain ⟨v12, e13, hF⟩ := ob_s hF
    refine m_getI X hp e13 kX0 (Nat.le_of_ble_eq_true rfl) q472 dX0_reaches_23 ?_
    refine lv_iload_n hx hb dX0_reaches_26 rfl (lv_at hl 1 rfl) ?_
    obtain ⟨M14, e15, hF⟩ := ob_s hF
    refine m_iaW X hp e15 dX0_reaches_27 (fun H locs hp => ?_)
    refine lv_aload_n hx hb dX0_reaches_28 rfl (lv_at hl 0 rfl) ?_
    refine lv_dup hx hb dX0_reaches_29 rfl ?_
    obtain ⟨v16, e17, hF⟩ := ob_s hF
    refine m_getI X hp e17 kX0 (Nat.le_of_ble_eq_true rfl) q472 dX0_reaches_30 ?_
    refine lv_iconst (v := 1) hx hb dX0_reaches_33 (by decide) ?_
    refine lv_iadd hx hb dX0_reaches_34 ?_
    obtain ⟨M18, e19, hF⟩ := ob_s hF
    refine m_putW X hp e19 kX0 (Nat.le_of_ble_eq_true rfl) q472 rfl rfl rfl dX0_reaches_35 (fun H locs hp => ?_)
    cases hF
    exact m_vret X hp dX0_reaches_38
  · have hF := if_n c5 hF
    cases hF
    exact m_vret X hp dX0_reaches_10
end
section
variable {l : Launch} {D : va_G} {n0 : Nat} {P : mP} {S : mSh} {M : mMm} {n : Nat} {p : Program} {e : Env} {s : State} {m : MethodId} {args : Array Value} {below : List Frame} {meth : Method} {c : Code}
abbrev Rm_X0_least : Room := { frames := 3, cells := 0, slots := 0, locals := 66 }
def fb_X0_least_182 (S : mSh) (k47 : mMm → Nat → Int32 → Int32 → Option (Int32 × mMm)) (M : mMm) (x0 : Nat) (x3 : Int32) (x4 : Int32) : Option (Int32 × mMm) := nm (x4 + (1 : Int32)) fun v66 => (k47 M x0 x3 v66)
theorem b_X0_least_182 {r : Int32} {M' : mMm} (X : mCx D n0 P p m c cX0_least 8 s args yX0_least.cls meth (some .int)) (k47 : mMm → Nat → Int32 → Int32 → Option (Int32 × mMm)) (hk47 : ∀ (M : mMm) (x0 : Nat) (x3 : Int32) (x4 : Int32) (H : Heap) (locs : List Loc) (ls : Array Slot), mHp D n0 S M n s H locs → lv_has ls 8 [(0, .ref x0), (3, .int x3), (4, .int x4)] → k47 M x0 x3 x4 = some (r, M') → W p l e Rm_X0_least s m args below meth c H locs 0 0 (MQ below (mQ D n0 (some (.int r)) S M' n) args s 0 0 (mA n0)) (F0 m 47 ls [])) : ∀ (M : mMm) (x0 : Nat) (x3 : Int32) (x4 : Int32) (H : Heap) (locs : List Loc) (ls : Array Slot), mHp D n0 S M n s H locs → lv_has ls 8 [(0, .ref x0), (3, .int x3), (4, .int x4)] → fb_X0_least_182 S k47 M x0 x3 x4 = some (r, M') → W p l e Rm_X0_least s m args below meth c H locs 0 0 (MQ below (mQ D n0 (some (.int r)) S M' n) args s 0 0 (mA n0)) (F0 m 182 ls []) := by
  have hx := X.1.1
  have hb := X.1.2.1
  have hown := X.1.2.2.2.1
  have hts := X.1.2.2.2.2
  intro M x0 x3 x4 H locs ls hp hl hF
  unfold fb_X0_least_182 at hF
  obtain ⟨v66, ev67⟩ : ∃ y : Int32, y = x4 + (1 : Int32) := ⟨_, rfl⟩
  have hF := nm_s hF ev67
  refine lv_iinc (v := v66) (lv' := [(4, .int v66), (0, .ref x0), (3, .int x3)]) hx hb dX0_least_182 hl (k := 2) rfl (by rw [ev67]; rfl) (by decide) rfl (fun ls hl => ?_)
  refine lv_goto (tgt := 47) hx hb dX0_least_185 (by decide) ?_
  exact hk47 _ _ _ _ _ _ _ hp (lv_sub hl [1, 2, 0] rfl) hF
def fb_X0_least_47 (S : mSh) : Nat → mMm → Nat → Int32 → Int32 → Option (Int32 × mMm)
  | 0, _, _, _, _ => none
  | t + 1, M, x0, x3, x4 => ob (rI S M x0 1 12) fun v21 => (if v21 ≤ x4 then some ((-1 : Int32), M) else ob (rR S M x0 1 11) fun v24 => ob (aI S M v24 100 x4) fun v26 => nm ((v26 / (4 : Int32))) fun v28 => ob (rR S M x0 1 11) fun v30 => ob (aI S M v30 100 x4) fun v32 => nm ((v32 - v32 / (4 : Int32) * (4 : Int32))) fun v34 => ob (rR S M x0 1 10) fun v36 => ob (rR S M x0 1 11) fun v38 => ob (aI S M v38 100 x4) fun v40 => ob (aI S M v36 100 v40) fun v42 => nm ((v42 + (1 : Int32))) fun v44 => (if v28 = x3 then some ((v44 - (1 : Int32)), M) else ob (f_X0_reaches S M x0 (((4 : Int32) * v28) + ((v34 + (1 : Int32)) - (v34 + (1 : Int32)) / (4 : Int32) * (4 : Int32))) v44) fun M49 => ob (f_X0_reaches S M49 x0 (((4 : Int32) * v28) + ((v34 + (3 : Int32)) - (v34 + (3 : Int32)) / (4 : Int32) * (4 : Int32))) v44) fun M52 => ob (f_X0_on v28 v34) fun v54 => (if v54 = (-1 : Int32) then (fb_X0_least_182 S (fb_X0_least_47 S t) M52 x0 x3 x4) else ob (f_X0_on v28 v34) fun v57 => ob (f_X0_isOpen S M52 x0 v57) fun v59 => (if v59 = 0 then (fb_X0_least_182 S (fb_X0_least_47 S t) M52 x0 x3 x4) else ob (f_X0_on v28 v34) fun v62 => ob (f_X0_reaches S M52 x0 (((4 : Int32) * v62) + v34) v44) fun M65 => (fb_X0_least_182 S (fb_X0_least_47 S t) M65 x0 x3 x4)))))
theorem b_X0_least_47 {r : Int32} {M' : mMm} (X : mCx D n0 P p m c cX0_least 8 s args yX0_least.cls meth (some .int)) : ∀ t : Nat, ∀ (M : mMm) (x0 : Nat) (x3 : Int32) (x4 : Int32) (H : Heap) (locs : List Loc) (ls : Array Slot), mHp D n0 S M n s H locs → lv_has ls 8 [(0, .ref x0), (3, .int x3), (4, .int x4)] → fb_X0_least_47 S t M x0 x3 x4 = some (r, M') → W p l e Rm_X0_least s m args below meth c H locs 0 0 (MQ below (mQ D n0 (some (.int r)) S M' n) args s 0 0 (mA n0)) (F0 m 47 ls []) := by
  have hx := X.1.1
  have hb := X.1.2.1
  have hown := X.1.2.2.2.1
  have hts := X.1.2.2.2.2
  intro t
  induction t with
  | zero =>
    intro M x0 x3 x4 H locs ls hp hl hF
    have hF : none = some (r, M') := hF
    cases hF
  | succ t ih =>
    intro M x0 x3 x4 H locs ls hp hl hF
    rw [fb_X0_least_47] at hF
    refine lv_iload hx hb dX0_least_47 (lv_at hl 2 rfl) ?_
    refine lv_aload_n hx hb dX0_least_49 rfl (lv_at hl 0 rfl) ?_
    obtain ⟨v21, e22, hF⟩ := ob_s hF
    refine m_getI X hp e22 kX0 (Nat.le_of_ble_eq_true rfl) q472 dX0_least_50 ?_
    refine lv_icmp_ge (tgt := 188) hx hb dX0_least_53 (by decide) (fun c23 => ?_) (fun c23 => ?_)
    · have hF := if_p c23 hF
      refine lv_iconst (v := -1) hx hb dX0_least_188 (by decide) ?_
      cases hF
      exact m_iret X hp dX0_least_189
    · have hF := if_n c23 hF
      refine lv_aload_n hx hb dX0_least_56 rfl (lv_at hl 0 rfl) ?_
      obtain ⟨v24, e25, hF⟩ := ob_s hF
      refine m_getR X hp e25 kX0 (Nat.le_of_ble_eq_true rfl) q471 dX0_least_57 ?_
      refine lv_iload hx hb dX0_least_60 (lv_at hl 2 rfl) ?_
      obtain ⟨v26, e27, hF⟩ := ob_s hF
      refine m_iaI X hp e27 dX0_least_62 ?_
      refine lv_iconst (v := 4) hx hb dX0_least_63 (by decide) ?_
      refine lv_idiv hx hb dX0_least_64 (by decide) ?_
      refine lv_topi (fun v28 ev29 => ?_)
      have hF := nm_s hF ev29
      refine lv_istore (lv' := [(5, .int v28), (0, .ref x0), (3, .int x3), (4, .int x4)]) hx hb dX0_least_65 hl (by decide) rfl (fun ls hl => ?_)
      refine lv_aload_n hx hb dX0_least_67 rfl (lv_at hl 1 rfl) ?_
      obtain ⟨v30, e31, hF⟩ := ob_s hF
      refine m_getR X hp e31 kX0 (Nat.le_of_ble_eq_true rfl) q471 dX0_least_68 ?_
      refine lv_iload hx hb dX0_least_71 (lv_at hl 3 rfl) ?_
      obtain ⟨v32, e33, hF⟩ := ob_s hF
      refine m_iaI X hp e33 dX0_least_73 ?_
      refine lv_iconst (v := 4) hx hb dX0_least_74 (by decide) ?_
      refine lv_irem hx hb dX0_least_75 (by decide) ?_
      refine lv_topi (fun v34 ev35 => ?_)
      have hF := nm_s hF ev35
      refine lv_istore (lv' := [(6, .int v34), (5, .int v28), (0, .ref x0), (3, .int x3), (4, .int x4)]) hx hb dX0_least_76 hl (by decide) rfl (fun ls hl => ?_)
      refine lv_aload_n hx hb dX0_least_78 rfl (lv_at hl 2 rfl) ?_
      obtain ⟨v36, e37, hF⟩ := ob_s hF
      refine m_getR X hp e37 kX0 (Nat.le_of_ble_eq_true rfl) q470 dX0_least_79 ?_
      refine lv_aload_n hx hb dX0_least_82 rfl (lv_at hl 2 rfl) ?_
      obtain ⟨v38, e39, hF⟩ := ob_s hF
      refine m_getR X hp e39 kX0 (Nat.le_of_ble_eq_true rfl) q471 dX0_least_83 ?_
      refine lv_iload hx hb dX0_least_86 (lv_at hl 4 rfl) ?_
      obtain ⟨v40, e41, hF⟩ := ob_s hF
      refine m_iaI X hp e41 dX0_least_88 ?_
      obtain ⟨v42, e43, hF⟩ := ob_s hF
      refine m_iaI X hp e43 dX0_least_89 ?_
      refine lv_iconst (v := 1) hx hb dX0_least_90 (by decide) ?_
      refine lv_iadd hx hb dX0_least_91 ?_
      refine lv_topi (fun v44 ev45 => ?_)
      have hF := nm_s hF ev45
      refine lv_istore (lv' := [(7, .int v44), (6, .int v34), (5, .int v28), (0, .ref x0), (3, .int x3), (4, .int x4)]) hx hb dX0_least_92 hl (by decide) rfl (fun ls hl => ?_)
      refine lv_iload hx hb dX0_least_94 (lv_at hl 2 rfl) ?_
      refine lv_iload_n hx hb dX0_least_96 rfl (lv_at hl 4 rfl) ?_
      refine lv_icmp_ne (tgt := 105) hx hb dX0_least_97 (by decide) (fun c46 => ?_) (fun c46 => ?_)
      · have hF := if_n c46 hF
        refine lv_aload_n hx hb dX0_least_105 rfl (lv_at hl 3 rfl) ?_
        refine lv_iconst (v := 4) hx hb dX0_least_106 (by decide) ?_
        refine lv_iload hx hb dX0_least_107 (lv_at hl 2 rfl) ?_
        refine lv_imul hx hb dX0_least_109 ?_
        refine lv_iload hx hb dX0_least_110 (lv_at hl 1 rfl) ?_
        refine lv_iconst (v := 1) hx hb dX0_least_112 (by decide) ?_
        refine lv_iadd hx hb dX0_least_113 ?_
        refine lv_iconst (v := 4) hx hb dX0_least_114 (by decide) ?_
        refine lv_irem hx hb dX0_least_115 (by decide) ?_
        refine lv_iadd hx hb dX0_least_116 ?_
        refine lv_iload hx hb dX0_least_117 (lv_at hl 0 rfl) ?_
        obtain ⟨M49, e47, hF⟩ := ob_s hF
        refine m_callV (As := [.int (((4 : Int32) * v28) + ((v34 + (1 : Int32)) - (v34 + (1 : Int32)) / (4 : Int32) * (4 : Int32))), .int v44]) (rest := []) X hp (w_X0_reaches e47) q1237 q1239 qs43 q132 q1240 2 rfl ds_X0_reaches ⟨Nat.le_of_ble_eq_true rfl, Nat.le_of_ble_eq_true rfl⟩ 1 (T := TX0) (N := 30) rfl (by decide) (rR_s e39).1 hl.1 rfl (Nat.le_of_ble_eq_true rfl) dX0_least_119 ⟨Nat.le_refl 0, Nat.le_refl 0⟩ (fun H locs hp => ?_)
        refine lv_aload_n hx hb dX0_least_122 rfl (lv_at hl 3 rfl) ?_
        refine lv_iconst (v := 4) hx hb dX0_least_123 (by decide) ?_
        refine lv_iload hx hb dX0_least_124 (lv_at hl 2 rfl) ?_
        refine lv_imul hx hb dX0_least_126 ?_
        refine lv_iload hx hb dX0_least_127 (lv_at hl 1 rfl) ?_
        refine lv_iconst (v := 3) hx hb dX0_least_129 (by decide) ?_
        refine lv_iadd hx hb dX0_least_130 ?_
        refine lv_iconst (v := 4) hx hb dX0_least_131 (by decide) ?_
        refine lv_irem hx hb dX0_least_132 (by decide) ?_
        refine lv_iadd hx hb dX0_least_133 ?_
        refine lv_iload hx hb dX0_least_134 (lv_at hl 0 rfl) ?_
        obtain ⟨M52, e50, hF⟩ := ob_s hF
        refine m_callV (As := [.int (((4 : Int32) * v28) + ((v34 + (3 : Int32)) - (v34 + (3 : Int32)) / (4 : Int32) * (4 : Int32))), .int v44]) (rest := []) X hp (w_X0_reaches e50) q1237 q1239 qs43 q132 q1240 2 rfl ds_X0_reaches ⟨Nat.le_of_ble_eq_true rfl, Nat.le_of_ble_eq_true rfl⟩ 1 (T := TX0) (N := 30) rfl (by decide) (rR_s e39).1 hl.1 rfl (Nat.le_of_ble_eq_true rfl) dX0_least_136 ⟨Nat.le_refl 0, Nat.le_refl 0⟩ (fun H locs hp => ?_)
        refine lv_iload hx hb dX0_least_139 (lv_at hl 2 rfl) ?_
        refine lv_iload hx hb dX0_least_141 (lv_at hl 1 rfl) ?_
        obtain ⟨v54, e53, hF⟩ := ob_s hF
        refine m_callS (As := [.int v28, .int v34]) (rest := []) X hp (w_X0_on e53) q1241 q1103 q132 q1104 2 rfl ds_X0_on ⟨Nat.le_of_ble_eq_true rfl, Nat.le_of_ble_eq_true rfl⟩ hl.1 rfl (Nat.le_of_ble_eq_true rfl) dX0_least_143 ⟨Nat.le_refl 0, Nat.le_refl 0⟩ (fun H locs hp => ?_)
        refine lv_iconst (v := -1) hx hb dX0_least_146 (by decide) ?_
        refine lv_icmp_eq (tgt := 182) hx hb dX0_least_147 (by decide) (fun c55 => ?_) (fun c55 => ?_)
        · have hF := if_p c55 hF
          exact b_X0_least_182 X _ ih _ _ _ _ _ _ _ hp (lv_sub hl [3, 4, 5] rfl) hF
        · have hF := if_n c55 hF
          refine lv_aload_n hx hb dX0_least_150 rfl (lv_at hl 3 rfl) ?_
          refine lv_iload hx hb dX0_least_151 (lv_at hl 2 rfl) ?_
          refine lv_iload hx hb dX0_least_153 (lv_at hl 1 rfl) ?_
          obtain ⟨v57, e56, hF⟩ := ob_s hF
          refine m_callS (As := [.int v28, .int v34]) (rest := [.ref x0]) X hp (w_X0_on e56) q1241 q1103 q132 q1104 2 rfl ds_X0_on ⟨Nat.le_of_ble_eq_true rfl, Nat.le_of_ble_eq_true rfl⟩ hl.1 rfl (Nat.le_of_ble_eq_true rfl) dX0_least_155 ⟨Nat.le_refl 0, Nat.le_refl 0⟩ (fun H locs hp => ?_)
          obtain ⟨v59, e58, hF⟩ := ob_s hF
          refine m_callV (As := [.int v57]) (rest := []) X hp (w_X0_isOpen e58) q1228 q1230 qs41 q132 q1231 1 rfl ds_X0_isOpen ⟨Nat.le_of_ble_eq_true rfl, Nat.le_of_ble_eq_true rfl⟩ 1 (T := TX0) (N := 30) rfl (by decide) (rR_s e39).1 hl.1 rfl (Nat.le_of_ble_eq_true rfl) dX0_least_158 ⟨Nat.le_refl 0, Nat.le_refl 0⟩ (fun H locs hp => ?_)
          refine lv_if_eq (tgt := 182) hx hb dX0_least_161 (by decide) (fun c60 => ?_) (fun c60 => ?_)
          · have hF := if_p c60 hF
            exact b_X0_least_182 X _ ih _ _ _ _ _ _ _ hp (lv_sub hl [3, 4, 5] rfl) hF
          · have hF := if_n c60 hF
            refine lv_aload_n hx hb dX0_least_164 rfl (lv_at hl 3 rfl) ?_
            refine lv_iconst (v := 4) hx hb dX0_least_165 (by decide) ?_
            refine lv_iload hx hb dX0_least_166 (lv_at hl 2 rfl) ?_
            refine lv_iload hx hb dX0_least_168 (lv_at hl 1 rfl) ?_
            obtain ⟨v62, e61, hF⟩ := ob_s hF
            refine m_callS (As := [.int v28, .int v34]) (rest := [.int (4 : Int32), .ref x0]) X hp (w_X0_on e61) q1241 q1103 q132 q1104 2 rfl ds_X0_on ⟨Nat.le_of_ble_eq_true rfl, Nat.le_of_ble_eq_true rfl⟩ hl.1 rfl (Nat.le_of_ble_eq_true rfl) dX0_least_170 ⟨Nat.le_refl 0, Nat.le_refl 0⟩ (fun H locs hp => ?_)
            refine lv_imul hx hb dX0_least_173 ?_
            refine lv_iload hx hb dX0_least_174 (lv_at hl 1 rfl) ?_
            refine lv_iadd hx hb dX0_least_176 ?_
            refine lv_iload hx hb dX0_least_177 (lv_at hl 0 rfl) ?_
            obtain ⟨M65, e63, hF⟩ := ob_s hF
            refine m_callV (As := [.int (((4 : Int32) * v62) + v34), .int v44]) (rest := []) X hp (w_X0_reaches e63) q1237 q1239 qs43 q132 q1240 2 rfl ds_X0_reaches ⟨Nat.le_of_ble_eq_true rfl, Nat.le_of_ble_eq_true rfl⟩ 1 (T := TX0) (N := 30) rfl (by decide) (rR_s e39).1 hl.1 rfl (Nat.le_of_ble_eq_true rfl) dX0_least_179 ⟨Nat.le_refl 0, Nat.le_refl 0⟩ (fun H locs hp => ?_)
            exact b_X0_least_182 X _ ih _ _ _ _ _ _ _ hp (lv_sub hl [3, 4, 5] rfl) hF
      · have hF := if_p c46 hF
        refine lv_iload hx hb dX0_least_100 (lv_at hl 0 rfl) ?_
        refine lv_iconst (v := 1) hx hb dX0_least_102 (by decide) ?_
        refine lv_isub hx hb dX0_least_103 ?_
        cases hF
        exact m_iret X hp dX0_least_104
def fb_X0_least_3 (S : mSh) : Nat → mMm → Nat → Int32 → Int32 → Int32 → Int32 → Option (Int32 × mMm)
  | 0, _, _, _, _, _, _ => none
  | t + 1, M, x0, x1, x2, x3, x4 => ob (rR S M x0 1 10) fun v3 => ob (aN S v3 100) fun v5 => (if v5 ≤ x4 then ob (wF S M x0 1 12 (.int (0 : Int32))) fun M8 => ob (f_X0_reaches S M8 x0 (((4 : Int32) * x1) + x2) (0 : Int32)) fun M12 => nm ((0 : Int32)) fun v13 => (fb_X0_least_47 S FU M12 x0 x3 v13) else ob (rR S M x0 1 10) fun v15 => ob (wA S M v15 100 x4 (.int (1000000 : Int32))) fun M17 => nm (x4 + (1 : Int32)) fun v19 => (fb_X0_least_3 S t M17 x0 x1 x2 x3 v19))
theorem b_X0_least_3 {r : Int32} {M' : mMm} (X : mCx D n0 P p m c cX0_least 8 s args yX0_least.cls meth (some .int)) : ∀ t : Nat, ∀ (M : mMm) (x0 : Nat) (x1 : Int32) (x2 : Int32) (x3 : Int32) (x4 : Int32) (H : Heap) (locs : List Loc) (ls : Array Slot), mHp D n0 S M n s H locs → lv_has ls 8 [(0, .ref x0), (1, .int x1), (2, .int x2), (3, .int x3), (4, .int x4)] → fb_X0_least_3 S t M x0 x1 x2 x3 x4 = some (r, M') → W p l e Rm_X0_least s m args below meth c H locs 0 0 (MQ below (mQ D n0 (some (.int r)) S M' n) args s 0 0 (mA n0)) (F0 m 3 ls []) := by
  have hx := X.1.1
  have hb := X.1.2.1
  have hown := X.1.2.2.2.1
  have hts := X.1.2.2.2.2
  intro t
  induction t with
  | zero =>
    intro M x0 x1 x2 x3 x4 H locs ls hp hl hF
    have hF : none = some (r, M') := hF
    cases hF
  | succ t ih =>
    intro M x0 x1 x2 x3 x4 H locs ls hp hl hF
    rw [fb_X0_least_3] at hF
    refine lv_iload hx hb dX0_least_3 (lv_at hl 4 rfl) ?_
    refine lv_aload_n hx hb dX0_least_5 rfl (lv_at hl 0 rfl) ?_
    obtain ⟨v3, e4, hF⟩ := ob_s hF
    refine m_getR X hp e4 kX0 (Nat.le_of_ble_eq_true rfl) q470 dX0_least_6 ?_
    obtain ⟨v5, e6, hF⟩ := ob_s hF
    refine m_aln 100 X hp e6 rfl (by decide) dX0_least_9 ?_
    refine lv_icmp_ge (tgt := 29) hx hb dX0_least_10 (by decide) (fun c7 => ?_) (fun c7 => ?_)
    · have hF := if_p c7 hF
      refine lv_aload_n hx hb dX0_least_29 rfl (lv_at hl 0 rfl) ?_
      refine lv_iconst (v := 0) hx hb dX0_least_30 (by decide) ?_
      obtain ⟨M8, e9, hF⟩ := ob_s hF
      refine m_putW X hp e9 kX0 (Nat.le_of_ble_eq_true rfl) q472 rfl rfl rfl dX0_least_31 (fun H locs hp => ?_)
      refine lv_aload_n hx hb dX0_least_34 rfl (lv_at hl 0 rfl) ?_
      refine lv_iconst (v := 4) hx hb dX0_least_35 (by decide) ?_
      refine lv_iload_n hx hb dX0_least_36 rfl (lv_at hl 1 rfl) ?_
      refine lv_imul hx hb dX0_least_37 ?_
      refine lv_iload_n hx hb dX0_least_38 rfl (lv_at hl 2 rfl) ?_
      refine lv_iadd hx hb dX0_least_39 ?_
      refine lv_iconst (v := 0) hx hb dX0_least_40 (by decide) ?_
      obtain ⟨M12, e10, hF⟩ := ob_s hF
      refine m_callV (As := [.int (((4 : Int32) * x1) + x2), .int (0 : Int32)]) (rest := []) X hp (w_X0_reaches e10) q1237 q1239 qs43 q132 q1240 2 rfl ds_X0_reaches ⟨Nat.le_of_ble_eq_true rfl, Nat.le_of_ble_eq_true rfl⟩ 1 (T := TX0) (N := 30) rfl (by decide) (wF_s e9).1 hl.1 rfl (Nat.le_of_ble_eq_true rfl) dX0_least_41 ⟨Nat.le_refl 0, Nat.le_refl 0⟩ (fun H locs hp => ?_)
      refine lv_iconst (v := 0) hx hb dX0_least_44 (by decide) ?_
      refine lv_topi (fun v13 ev14 => ?_)
      have hF := nm_s hF ev14
      refine lv_istore (lv' := [(4, .int v13), (0, .ref x0), (1, .int x1), (2, .int x2), (3, .int x3)]) hx hb dX0_least_45 hl (by decide) rfl (fun ls hl => ?_)
      exact b_X0_least_47 X _ _ _ _ _ _ _ _ hp (lv_sub hl [1, 4, 0] rfl) hF
    · have hF := if_n c7 hF
      refine lv_aload_n hx hb dX0_least_13 rfl (lv_at hl 0 rfl) ?_
      obtain ⟨v15, e16, hF⟩ := ob_s hF
      refine m_getR X hp e16 kX0 (Nat.le_of_ble_eq_true rfl) q470 dX0_least_14 ?_
      refine lv_iload hx hb dX0_least_17 (lv_at hl 4 rfl) ?_
      refine lv_ldcw hx hb hown (hts _ q1236) dX0_least_19 ?_
      obtain ⟨M17, e18, hF⟩ := ob_s hF
      refine m_iaW X hp e18 dX0_least_22 (fun H locs hp => ?_)
      obtain ⟨v19, ev20⟩ : ∃ y : Int32, y = x4 + (1 : Int32) := ⟨_, rfl⟩
      have hF := nm_s hF ev20
      refine lv_iinc (v := v19) (lv' := [(4, .int v19), (0, .ref x0), (1, .int x1), (2, .int x2), (3, .int x3)]) hx hb dX0_least_23 hl (k := 4) rfl (by rw [ev20]; rfl) (by decide) rfl (fun ls hl => ?_)
      refine lv_goto (tgt := 3) hx hb dX0_least_26 (by decide) ?_
      exact ih _ _ _ _ _ _ _ _ _ hp (lv_sub hl [1, 2, 3, 4, 0] rfl) hF
def f_X0_least (S : mSh) (M : mMm) (x0 : Nat) (x1 : Int32) (x2 : Int32) (x3 : Int32) : Option (Int32 × mMm) := nm ((0 : Int32)) fun v1 => (fb_X0_least_3 S FU M x0 x1 x2 x3 v1)
theorem w_X0_least {x0 : Nat} {x1 : Int32} {x2 : Int32} {x3 : Int32} {r : Int32} {M' : mMm} (hF : f_X0_least S M x0 x1 x2 x3 = some (r, M')) : mCt l D n0 P yX0_least cX0_least 8 (some .int) 3 66 0 0 [.ref x0, .int x1, .int x2, .int x3] S M n (some (.int r)) S M' n := by
  refine m_ofW (by decide) (Nat.le_of_ble_eq_true rfl) (fun p e s m below meth c X hnm hp ls hl => ?_)
  have hx := X.1.1
  have hb := X.1.2.1
  have hown := X.1.2.2.2.1
  have hts := X.1.2.2.2.2
  have hl : lv_has ls 8 [(0, .ref x0), (1, .int x1), (2, .int x2), (3, .int x3)] := hl
  unfold f_X0_least at hF
  refine lv_iconst (v := 0) hx hb dX0_least_0 (by decide) ?_
  refine lv_topi (fun v1 ev2 => ?_)
  have hF := nm_s hF ev2
  refine lv_istore (lv' := [(4, .int v1), (0, .ref x0), (1, .int x1), (2, .int x2), (3, .int x3)]) hx hb dX0_least_1 hl (by decide) rfl (fun ls hl => ?_)
  exact b_X0_least_3 X _ _ _ _ _ _ _ _ _ _ hp (lv_sub hl [1, 2, 3, 4, 0] rfl) hF
end
section
variable {l : Launch} {D : va_G} {n0 : Nat} {P : mP} {S : mSh} {M : mMm} {n : Nat} {p : Program} {e : Env} {s : State} {m : MethodId} {args : Array Value} {below : List Frame} {meth : Method} {c : Code}
abbrev Rm_X0_laysSteps : Room := { frames := 3, cells := 0, slots := 0, locals := 66 }
def fb_X0_laysSteps_277 (S : mSh) (k154 : mMm → Nat → Int32 → Int32 → Int32 → Int32 → Int32 → Int32 → Option mMm) (M : mMm) (x0 : Nat) (x1 : Int32) (x2 : Int32) (x3 : Int32) (x4 : Int32) (x5 : Int32) (x6 : Int32) : Option mMm := nm (x6 + (1 : Int32)) fun v85 => (k154 M x0 x1 x2 x3 x4 x5 v85)
theorem b_X0_laysSteps_277 {M' : mMm} (X : mCx D n0 P p m c cX0_laysSteps 8 s args yX0_laysSteps.cls meth none) (k154 : mMm → Nat → Int32 → Int32 → Int32 → Int32 → Int32 → Int32 → Option mMm) (hk154 : ∀ (M : mMm) (x0 : Nat) (x1 : Int32) (x2 : Int32) (x3 : Int32) (x4 : Int32) (x5 : Int32) (x6 : Int32) (H : Heap) (locs : List Loc) (ls : Array Slot), mHp D n0 S M n s H locs → lv_has ls 8 [(0, .ref x0), (1, .int x1), (2, .int x2), (3, .int x3), (4, .int x4), (5, .int x5), (6, .int x6)] → k154 M x0 x1 x2 x3 x4 x5 x6 = some M' → W p l e Rm_X0_laysSteps s m args below meth c H locs 0 0 (MQ below (mQ D n0 none S M' n) args s 0 0 (mA n0)) (F0 m 154 ls [])) : ∀ (M : mMm) (x0 : Nat) (x1 : Int32) (x2 : Int32) (x3 : Int32) (x4 : Int32) (x5 : Int32) (x6 : Int32) (H : Heap) (locs : List Loc) (ls : Array Slot), mHp D n0 S M n s H locs → lv_has ls 8 [(0, .ref x0), (1, .int x1), (2, .int x2), (3, .int x3), (4, .int x4), (5, .int x5), (6, .int x6)] → fb_X0_laysSteps_277 S k154 M x0 x1 x2 x3 x4 x5 x6 = some M' → W p l e Rm_X0_laysSteps s m args below meth c H locs 0 0 (MQ below (mQ D n0 none S M' n) args s 0 0 (mA n0)) (F0 m 277 ls []) := by
  have hx := X.1.1
  have hb := X.1.2.1
  have hown := X.1.2.2.2.1
  have hts := X.1.2.2.2.2
  intro M x0 x1 x2 x3 x4 x5 x6 H locs ls hp hl hF
  unfold fb_X0_laysSteps_277 at hF
  obtain ⟨v85, ev86⟩ : ∃ y : Int32, y = x6 + (1 : Int32) := ⟨_, rfl⟩
  have hF := nm_s hF ev86
  refine lv_iinc (v := v85) (lv' := [(6, .int v85), (0, .ref x0), (1, .int x1), (2, .int x2), (3, .int x3), (4, .int x4), (5, .int x5)]) hx hb dX0_laysSteps_277 hl (k := 6) rfl (by rw [ev86]; rfl) (by decide) rfl (fun ls hl => ?_)
  refine lv_goto (tgt := 154) hx hb dX0_laysSteps_280 (by decide) ?_
  exact hk154 _ _ _ _ _ _ _ _ _ _ _ hp (lv_sub hl [1, 2, 3, 4, 5, 6, 0] rfl) hF
def fb_X0_laysSteps_193 (S : mSh) (k154 : mMm → Nat → Int32 → Int32 → Int32 → Int32 → Int32 → Int32 → Option mMm) (M : mMm) (x0 : Nat) (x1 : Int32) (x2 : Int32) (x3 : Int32) (x4 : Int32) (x5 : Int32) (x6 : Int32) (y0 : Int32) : Option mMm := (if y0 = (-1 : Int32) then (fb_X0_laysSteps_277 S k154 M x0 x1 x2 x3 x4 x5 x6) else gd ((S x0).1 = 1) (ob (f_X0_isOpen S M x0 y0) fun v64 => (if v64 = 0 then (fb_X0_laysSteps_277 S k154 M x0 x1 x2 x3 x4 x5 x6) else ob (rR S M x0 1 10) fun v66 => ob (aI S M v66 100 ((x4 + ((4 : Int32) * y0)) + (x6 - x6 / (4 : Int32) * (4 : Int32)))) fun v68 => ob (rR S M x0 1 10) fun v70 => ob (aI S M v70 100 (x4 + x6)) fun v72 => (if (v72 + (1 : Int32)) < v68 then ob (rR S M x0 1 10) fun v75 => ob (rR S M x0 1 10) fun v77 => ob (aI S M v77 100 (x4 + x6)) fun v79 => ob (wA S M v75 100 ((x4 + ((4 : Int32) * y0)) + (x6 - x6 / (4 : Int32) * (4 : Int32))) (.int (v79 + (1 : Int32)))) fun M81 => nm ((1 : Int32)) fun v83 => (fb_X0_laysSteps_277 S k154 M81 x0 x1 x2 x3 x4 v83 x6) else (fb_X0_laysSteps_277 S k154 M x0 x1 x2 x3 x4 x5 x6)))))
theorem b_X0_laysSteps_193 {M' : mMm} (X : mCx D n0 P p m c cX0_laysSteps 8 s args yX0_laysSteps.cls meth none) (k154 : mMm → Nat → Int32 → Int32 → Int32 → Int32 → Int32 → Int32 → Option mMm) (hk154 : ∀ (M : mMm) (x0 : Nat) (x1 : Int32) (x2 : Int32) (x3 : Int32) (x4 : Int32) (x5 : Int32) (x6 : Int32) (H : Heap) (locs : List Loc) (ls : Array Slot), mHp D n0 S M n s H locs → lv_has ls 8 [(0, .ref x0), (1, .int x1), (2, .int x2), (3, .int x3), (4, .int x4), (5, .int x5), (6, .int x6)] → k154 M x0 x1 x2 x3 x4 x5 x6 = some M' → W p l e Rm_X0_laysSteps s m args below meth c H locs 0 0 (MQ below (mQ D n0 none S M' n) args s 0 0 (mA n0)) (F0 m 154 ls [])) : ∀ (M : mMm) (x0 : Nat) (x1 : Int32) (x2 : Int32) (x3 : Int32) (x4 : Int32) (x5 : Int32) (x6 : Int32) (y0 : Int32) (H : Heap) (locs : List Loc) (ls : Array Slot), mHp D n0 S M n s H locs → lv_has ls 8 [(0, .ref x0), (1, .int x1), (2, .int x2), (3, .int x3), (4, .int x4), (5, .int x5), (6, .int x6)] → fb_X0_laysSteps_193 S k154 M x0 x1 x2 x3 x4 x5 x6 y0 = some M' → W p l e Rm_X0_laysSteps s m args below meth c H locs 0 0 (MQ below (mQ D n0 none S M' n) args s 0 0 (mA n0)) (F0 m 193 ls [.int y0]) := by
  have hx := X.1.1
  have hb := X.1.2.1
  have hown := X.1.2.2.2.1
  have hts := X.1.2.2.2.2
  intro M x0 x1 x2 x3 x4 x5 x6 y0 H locs ls hp hl hF
  unfold fb_X0_laysSteps_193 at hF
  refine lv_istore (lv' := [(7, .int y0), (0, .ref x0), (1, .int x1), (2, .int x2), (3, .int x3), (4, .int x4), (5, .int x5), (6, .int x6)]) hx hb dX0_laysSteps_193 hl (by decide) rfl (fun ls hl => ?_)
  refine lv_iload hx hb dX0_laysSteps_195 (lv_at hl 0 rfl) ?_
  refine lv_iconst (v := -1) hx hb dX0_laysSteps_197 (by decide) ?_
  refine lv_icmp_eq (tgt := 277) hx hb dX0_laysSteps_198 (by decide) (fun c61 => ?_) (fun c61 => ?_)
  · have hF := if_p c61 hF
    exact b_X0_laysSteps_277 X _ hk154 _ _ _ _ _ _ _ _ _ _ _ hp (lv_sub hl [1, 2, 3, 4, 5, 6, 7] rfl) hF
  · have hF := if_n c61 hF
    refine lv_aload_n hx hb dX0_laysSteps_201 rfl (lv_at hl 1 rfl) ?_
    refine lv_iload hx hb dX0_laysSteps_202 (lv_at hl 0 rfl) ?_
    obtain ⟨g62, hF⟩ := gd_s hF
    obtain ⟨v64, e63, hF⟩ := ob_s hF
    refine m_callV (As := [.int y0]) (rest := []) X hp (w_X0_isOpen e63) q1228 q1230 qs41 q132 q1231 1 rfl ds_X0_isOpen ⟨Nat.le_of_ble_eq_true rfl, Nat.le_of_ble_eq_true rfl⟩ 1 (T := TX0) (N := 30) rfl (by decide) g62 hl.1 rfl (Nat.le_of_ble_eq_true rfl) dX0_laysSteps_204 ⟨Nat.le_refl 0, Nat.le_refl 0⟩ (fun H locs hp => ?_)
    refine lv_if_eq (tgt := 277) hx hb dX0_laysSteps_207 (by decide) (fun c65 => ?_) (fun c65 => ?_)
    · have hF := if_p c65 hF
      exact b_X0_laysSteps_277 X _ hk154 _ _ _ _ _ _ _ _ _ _ _ hp (lv_sub hl [1, 2, 3, 4, 5, 6, 7] rfl) hF
    · have hF := if_n c65 hF
      refine lv_aload_n hx hb dX0_laysSteps_210 rfl (lv_at hl 1 rfl) ?_
      obtain ⟨v66, e67, hF⟩ := ob_s hF
      refine m_getR X hp e67 kX0 (Nat.le_of_ble_eq_true rfl) q470 dX0_laysSteps_211 ?_
      refine lv_iload hx hb dX0_laysSteps_214 (lv_at hl 5 rfl) ?_
      refine lv_iconst (v := 4) hx hb dX0_laysSteps_216 (by decide) ?_
      refine lv_iload hx hb dX0_laysSteps_217 (lv_at hl 0 rfl) ?_
      refine lv_imul hx hb dX0_laysSteps_219 ?_
      refine lv_iadd hx hb dX0_laysSteps_220 ?_
      refine lv_iload hx hb dX0_laysSteps_221 (lv_at hl 7 rfl) ?_
      refine lv_iconst (v := 4) hx hb dX0_laysSteps_223 (by decide) ?_
      refine lv_irem hx hb dX0_laysSteps_224 (by decide) ?_
      refine lv_iadd hx hb dX0_laysSteps_225 ?_
      obtain ⟨v68, e69, hF⟩ := ob_s hF
      refine m_iaI X hp e69 dX0_laysSteps_226 ?_
      refine lv_aload_n hx hb dX0_laysSteps_227 rfl (lv_at hl 1 rfl) ?_
      obtain ⟨v70, e71, hF⟩ := ob_s hF
      refine m_getR X hp e71 kX0 (Nat.le_of_ble_eq_true rfl) q470 dX0_laysSteps_228 ?_
      refine lv_iload hx hb dX0_laysSteps_231 (lv_at hl 5 rfl) ?_
      refine lv_iload hx hb dX0_laysSteps_233 (lv_at hl 7 rfl) ?_
      refine lv_iadd hx hb dX0_laysSteps_235 ?_
      obtain ⟨v72, e73, hF⟩ := ob_s hF
      refine m_iaI X hp e73 dX0_laysSteps_236 ?_
      refine lv_iconst (v := 1) hx hb dX0_laysSteps_237 (by decide) ?_
      refine lv_iadd hx hb dX0_laysSteps_238 ?_
      refine lv_icmp_gt (tgt := 245) hx hb dX0_laysSteps_239 (by decide) (fun c74 => ?_) (fun c74 => ?_)
      · have hF := if_p c74 hF
        refine lv_aload_n hx hb dX0_laysSteps_245 rfl (lv_at hl 1 rfl) ?_
        obtain ⟨v75, e76, hF⟩ := ob_s hF
        refine m_getR X hp e76 kX0 (Nat.le_of_ble_eq_true rfl) q470 dX0_laysSteps_246 ?_
        refine lv_iload hx hb dX0_laysSteps_249 (lv_at hl 5 rfl) ?_
        refine lv_iconst (v := 4) hx hb dX0_laysSteps_251 (by decide) ?_
        refine lv_iload hx hb dX0_laysSteps_252 (lv_at hl 0 rfl) ?_
        refine lv_imul hx hb dX0_laysSteps_254 ?_
        refine lv_iadd hx hb dX0_laysSteps_255 ?_
        refine lv_iload hx hb dX0_laysSteps_256 (lv_at hl 7 rfl) ?_
        refine lv_iconst (v := 4) hx hb dX0_laysSteps_258 (by decide) ?_
        refine lv_irem hx hb dX0_laysSteps_259 (by decide) ?_
        refine lv_iadd hx hb dX0_laysSteps_260 ?_
        refine lv_aload_n hx hb dX0_laysSteps_261 rfl (lv_at hl 1 rfl) ?_
        obtain ⟨v77, e78, hF⟩ := ob_s hF
        refine m_getR X hp e78 kX0 (Nat.le_of_ble_eq_true rfl) q470 dX0_laysSteps_262 ?_
        refine lv_iload hx hb dX0_laysSteps_265 (lv_at hl 5 rfl) ?_
        refine lv_iload hx hb dX0_laysSteps_267 (lv_at hl 7 rfl) ?_
        refine lv_iadd hx hb dX0_laysSteps_269 ?_
        obtain ⟨v79, e80, hF⟩ := ob_s hF
        refine m_iaI X hp e80 dX0_laysSteps_270 ?_
        refine lv_iconst (v := 1) hx hb dX0_laysSteps_271 (by decide) ?_
        refine lv_iadd hx hb dX0_laysSteps_272 ?_
        obtain ⟨M81, e82, hF⟩ := ob_s hF
        refine m_iaW X hp e82 dX0_laysSteps_273 (fun H locs hp => ?_)
        refine lv_iconst (v := 1) hx hb dX0_laysSteps_274 (by decide) ?_
        refine lv_topi (fun v83 ev84 => ?_)
        have hF := nm_s hF ev84
        refine lv_istore (lv' := [(5, .int v83), (7, .int y0), (0, .ref x0), (1, .int x1), (2, .int x2), (3, .int x3), (4, .int x4), (6, .int x6)]) hx hb dX0_laysSteps_275 hl (by decide) rfl (fun ls hl => ?_)
        exact b_X0_laysSteps_277 X _ hk154 _ _ _ _ _ _ _ _ _ _ _ hp (lv_sub hl [2, 3, 4, 5, 6, 0, 7] rfl) hF
      · have hF := if_n c74 hF
        refine lv_goto (tgt := 277) hx hb dX0_laysSteps_242 (by decide) ?_
        exact b_X0_laysSteps_277 X _ hk154 _ _ _ _ _ _ _ _ _ _ _ hp (lv_sub hl [1, 2, 3, 4, 5, 6, 7] rfl) hF
def fb_X0_laysSteps_154 (S : mSh) (k143 : mMm → Nat → Int32 → Int32 → Int32 → Int32 → Int32 → Option mMm) : Nat → mMm → Nat → Int32 → Int32 → Int32 → Int32 → Int32 → Int32 → Option mMm
  | 0, _, _, _, _, _, _, _, _ => none
  | t + 1, M, x0, x1, x2, x3, x4, x5, x6 => (if (576 : Int32) ≤ x6 then (k143 M x0 x1 x2 x3 x4 x5) else ob (rR S M x0 1 10) fun v54 => ob (aI S M v54 100 (x4 + x6)) fun v56 => (if v56 = (1000000 : Int32) then (fb_X0_laysSteps_193 S (fb_X0_laysSteps_154 S k143 t) M x0 x1 x2 x3 x4 x5 x6 (-1 : Int32)) else ob (f_X0_on (x6 / (4 : Int32)) (x6 - x6 / (4 : Int32) * (4 : Int32))) fun v60 => (fb_X0_laysSteps_193 S (fb_X0_laysSteps_154 S k143 t) M x0 x1 x2 x3 x4 x5 x6 v60)))
theorem b_X0_laysSteps_154 {M' : mMm} (X : mCx D n0 P p m c cX0_laysSteps 8 s args yX0_laysSteps.cls meth none) (k143 : mMm → Nat → Int32 → Int32 → Int32 → Int32 → Int32 → Option mMm) (hk143 : ∀ (M : mMm) (x0 : Nat) (x1 : Int32) (x2 : Int32) (x3 : Int32) (x4 : Int32) (x5 : Int32) (H : Heap) (locs : List Loc) (ls : Array Slot), mHp D n0 S M n s H locs → lv_has ls 8 [(0, .ref x0), (1, .int x1), (2, .int x2), (3, .int x3), (4, .int x4), (5, .int x5)] → k143 M x0 x1 x2 x3 x4 x5 = some M' → W p l e Rm_X0_laysSteps s m args below meth c H locs 0 0 (MQ below (mQ D n0 none S M' n) args s 0 0 (mA n0)) (F0 m 143 ls [])) : ∀ t : Nat, ∀ (M : mMm) (x0 : Nat) (x1 : Int32) (x2 : Int32) (x3 : Int32) (x4 : Int32) (x5 : Int32) (x6 : Int32) (H : Heap) (locs : List Loc) (ls : Array Slot), mHp D n0 S M n s H locs → lv_has ls 8 [(0, .ref x0), (1, .int x1), (2, .int x2), (3, .int x3), (4, .int x4), (5, .int x5), (6, .int x6)] → fb_X0_laysSteps_154 S k143 t M x0 x1 x2 x3 x4 x5 x6 = some M' → W p l e Rm_X0_laysSteps s m args below meth c H locs 0 0 (MQ below (mQ D n0 none S M' n) args s 0 0 (mA n0)) (F0 m 154 ls []) := by
  have hx := X.1.1
  have hb := X.1.2.1
  have hown := X.1.2.2.2.1
  have hts := X.1.2.2.2.2
  intro t
  induction t with
  | zero =>
    intro M x0 x1 x2 x3 x4 x5 x6 H locs ls hp hl hF
    have hF : none = some M' := hF
    cases hF
  | succ t ih =>
    intro M x0 x1 x2 x3 x4 x5 x6 H locs ls hp hl hF
    rw [fb_X0_laysSteps_154] at hF
    refine lv_iload hx hb dX0_laysSteps_154 (lv_at hl 6 rfl) ?_
    refine lv_sipush (v := 576) hx hb dX0_laysSteps_156 (by decide) ?_
    refine lv_icmp_ge (tgt := 283) hx hb dX0_laysSteps_159 (by decide) (fun c53 => ?_) (fun c53 => ?_)
    · have hF := if_p c53 hF
      refine lv_goto (tgt := 143) hx hb dX0_laysSteps_283 (by decide) ?_
      exact hk143 _ _ _ _ _ _ _ _ _ _ hp (lv_sub hl [0, 1, 2, 3, 4, 5] rfl) hF
    · have hF := if_n c53 hF
      refine lv_aload_n hx hb dX0_laysSteps_162 rfl (lv_at hl 0 rfl) ?_
      obtain ⟨v54, e55, hF⟩ := ob_s hF
      refine m_getR X hp e55 kX0 (Nat.le_of_ble_eq_true rfl) q470 dX0_laysSteps_163 ?_
      refine lv_iload hx hb dX0_laysSteps_166 (lv_at hl 4 rfl) ?_
      refine lv_iload hx hb dX0_laysSteps_168 (lv_at hl 6 rfl) ?_
      refine lv_iadd hx hb dX0_laysSteps_170 ?_
      obtain ⟨v56, e57, hF⟩ := ob_s hF
      refine m_iaI X hp e57 dX0_laysSteps_171 ?_
      refine lv_ldcw hx hb hown (hts _ q1236) dX0_laysSteps_172 ?_
      refine lv_icmp_ne (tgt := 182) hx hb dX0_laysSteps_175 (by decide) (fun c58 => ?_) (fun c58 => ?_)
      · have hF := if_n c58 hF
        refine lv_iload hx hb dX0_laysSteps_182 (lv_at hl 6 rfl) ?_
        refine lv_iconst (v := 4) hx hb dX0_laysSteps_184 (by decide) ?_
        refine lv_idiv hx hb dX0_laysSteps_185 (by decide) ?_
        refine lv_iload hx hb dX0_laysSteps_186 (lv_at hl 6 rfl) ?_
        refine lv_iconst (v := 4) hx hb dX0_laysSteps_188 (by decide) ?_
        refine lv_irem hx hb dX0_laysSteps_189 (by decide) ?_
        obtain ⟨v60, e59, hF⟩ := ob_s hF
        refine m_callS (As := [.int (x6 / (4 : Int32)), .int (x6 - x6 / (4 : Int32) * (4 : Int32))]) (rest := []) X hp (w_X0_on e59) q1241 q1103 q132 q1104 2 rfl ds_X0_on ⟨Nat.le_of_ble_eq_true rfl, Nat.le_of_ble_eq_true rfl⟩ hl.1 rfl (Nat.le_of_ble_eq_true rfl) dX0_laysSteps_190 ⟨Nat.le_refl 0, Nat.le_refl 0⟩ (fun H locs hp => ?_)
        exact b_X0_laysSteps_193 X _ ih _ _ _ _ _ _ _ _ _ _ _ _ hp (lv_sub hl [0, 1, 2, 3, 4, 5, 6] rfl) hF
      · have hF := if_p c58 hF
        refine lv_iconst (v := -1) hx hb dX0_laysSteps_178 (by decide) ?_
        refine lv_goto (tgt := 193) hx hb dX0_laysSteps_179 (by decide) ?_
        exact b_X0_laysSteps_193 X _ ih _ _ _ _ _ _ _ _ _ _ _ _ hp (lv_sub hl [0, 1, 2, 3, 4, 5, 6] rfl) hF
def fb_X0_laysSteps_143 (S : mSh) (k28 : mMm → Nat → Int32 → Int32 → Int32 → Option mMm) : Nat → mMm → Nat → Int32 → Int32 → Int32 → Int32 → Int32 → Option mMm
  | 0, _, _, _, _, _, _, _ => none
  | t + 1, M, x0, x1, x2, x3, x4, x5 => (if x5 = 0 then nm (x3 + (1 : Int32)) fun v47 => (k28 M x0 x1 x2 v47) else nm ((0 : Int32)) fun v49 => nm ((0 : Int32)) fun v51 => (fb_X0_laysSteps_154 S (fb_X0_laysSteps_143 S k28 t) FU M x0 x1 x2 x3 x4 v49 v51))
theorem b_X0_laysSteps_143 {M' : mMm} (X : mCx D n0 P p m c cX0_laysSteps 8 s args yX0_laysSteps.cls meth none) (k28 : mMm → Nat → Int32 → Int32 → Int32 → Option mMm) (hk28 : ∀ (M : mMm) (x0 : Nat) (x1 : Int32) (x2 : Int32) (x3 : Int32) (H : Heap) (locs : List Loc) (ls : Array Slot), mHp D n0 S M n s H locs → lv_has ls 8 [(0, .ref x0), (1, .int x1), (2, .int x2), (3, .int x3)] → k28 M x0 x1 x2 x3 = some M' → W p l e Rm_X0_laysSteps s m args below meth c H locs 0 0 (MQ below (mQ D n0 none S M' n) args s 0 0 (mA n0)) (F0 m 28 ls [])) : ∀ t : Nat, ∀ (M : mMm) (x0 : Nat) (x1 : Int32) (x2 : Int32) (x3 : Int32) (x4 : Int32) (x5 : Int32) (H : Heap) (locs : List Loc) (ls : Array Slot), mHp D n0 S M n s H locs → lv_has ls 8 [(0, .ref x0), (1, .int x1), (2, .int x2), (3, .int x3), (4, .int x4), (5, .int x5)] → fb_X0_laysSteps_143 S k28 t M x0 x1 x2 x3 x4 x5 = some M' → W p l e Rm_X0_laysSteps s m args below meth c H locs 0 0 (MQ below (mQ D n0 none S M' n) args s 0 0 (mA n0)) (F0 m 143 ls []) := by
  have hx := X.1.1
  have hb := X.1.2.1
  have hown := X.1.2.2.2.1
  have hts := X.1.2.2.2.2
  intro t
  induction t with
  | zero =>
    intro M x0 x1 x2 x3 x4 x5 H locs ls hp hl hF
    have hF : none = some M' := hF
    cases hF
  | succ t ih =>
    intro M x0 x1 x2 x3 x4 x5 H locs ls hp hl hF
    rw [fb_X0_laysSteps_143] at hF
    refine lv_iload hx hb dX0_laysSteps_143 (lv_at hl 5 rfl) ?_
    refine lv_if_eq (tgt := 286) hx hb dX0_laysSteps_145 (by decide) (fun c46 => ?_) (fun c46 => ?_)
    · have hF := if_p c46 hF
      obtain ⟨v47, ev48⟩ : ∃ y : Int32, y = x3 + (1 : Int32) := ⟨_, rfl⟩
      have hF := nm_s hF ev48
      refine lv_iinc (v := v47) (lv' := [(3, .int v47), (0, .ref x0), (1, .int x1), (2, .int x2), (4, .int x4), (5, .int x5)]) hx hb dX0_laysSteps_286 hl (k := 3) rfl (by rw [ev48]; rfl) (by decide) rfl (fun ls hl => ?_)
      refine lv_goto (tgt := 28) hx hb dX0_laysSteps_289 (by decide) ?_
      exact hk28 _ _ _ _ _ _ _ _ hp (lv_sub hl [1, 2, 3, 0] rfl) hF
    · have hF := if_n c46 hF
      refine lv_iconst (v := 0) hx hb dX0_laysSteps_148 (by decide) ?_
      refine lv_topi (fun v49 ev50 => ?_)
      have hF := nm_s hF ev50
      refine lv_istore (lv' := [(5, .int v49), (0, .ref x0), (1, .int x1), (2, .int x2), (3, .int x3), (4, .int x4)]) hx hb dX0_laysSteps_149 hl (by decide) rfl (fun ls hl => ?_)
      refine lv_iconst (v := 0) hx hb dX0_laysSteps_151 (by decide) ?_
      refine lv_topi (fun v51 ev52 => ?_)
      have hF := nm_s hF ev52
      refine lv_istore (lv' := [(6, .int v51), (5, .int v49), (0, .ref x0), (1, .int x1), (2, .int x2), (3, .int x3), (4, .int x4)]) hx hb dX0_laysSteps_152 hl (by decide) rfl (fun ls hl => ?_)
      exact b_X0_laysSteps_154 X _ ih _ _ _ _ _ _ _ _ _ _ _ _ hp (lv_sub hl [2, 3, 4, 5, 6, 1, 0] rfl) hF
def fb_X0_laysSteps_140 (S : mSh) (k28 : mMm → Nat → Int32 → Int32 → Int32 → Option mMm) (M : mMm) (x0 : Nat) (x1 : Int32) (x2 : Int32) (x3 : Int32) (x4 : Int32) : Option mMm := nm ((1 : Int32)) fun v44 => (fb_X0_laysSteps_143 S k28 FU M x0 x1 x2 x3 x4 v44)
theorem b_X0_laysSteps_140 {M' : mMm} (X : mCx D n0 P p m c cX0_laysSteps 8 s args yX0_laysSteps.cls meth none) (k28 : mMm → Nat → Int32 → Int32 → Int32 → Option mMm) (hk28 : ∀ (M : mMm) (x0 : Nat) (x1 : Int32) (x2 : Int32) (x3 : Int32) (H : Heap) (locs : List Loc) (ls : Array Slot), mHp D n0 S M n s H locs → lv_has ls 8 [(0, .ref x0), (1, .int x1), (2, .int x2), (3, .int x3)] → k28 M x0 x1 x2 x3 = some M' → W p l e Rm_X0_laysSteps s m args below meth c H locs 0 0 (MQ below (mQ D n0 none S M' n) args s 0 0 (mA n0)) (F0 m 28 ls [])) : ∀ (M : mMm) (x0 : Nat) (x1 : Int32) (x2 : Int32) (x3 : Int32) (x4 : Int32) (H : Heap) (locs : List Loc) (ls : Array Slot), mHp D n0 S M n s H locs → lv_has ls 8 [(0, .ref x0), (1, .int x1), (2, .int x2), (3, .int x3), (4, .int x4)] → fb_X0_laysSteps_140 S k28 M x0 x1 x2 x3 x4 = some M' → W p l e Rm_X0_laysSteps s m args below meth c H locs 0 0 (MQ below (mQ D n0 none S M' n) args s 0 0 (mA n0)) (F0 m 140 ls []) := by
  have hx := X.1.1
  have hb := X.1.2.1
  have hown := X.1.2.2.2.1
  have hts := X.1.2.2.2.2
  intro M x0 x1 x2 x3 x4 H locs ls hp hl hF
  unfold fb_X0_laysSteps_140 at hF
  refine lv_iconst (v := 1) hx hb dX0_laysSteps_140 (by decide) ?_
  refine lv_topi (fun v44 ev45 => ?_)
  have hF := nm_s hF ev45
  refine lv_istore (lv' := [(5, .int v44), (0, .ref x0), (1, .int x1), (2, .int x2), (3, .int x3), (4, .int x4)]) hx hb dX0_laysSteps_141 hl (by decide) rfl (fun ls hl => ?_)
  exact b_X0_laysSteps_143 X _ hk28 _ _ _ _ _ _ _ _ _ _ _ hp (lv_sub hl [1, 2, 3, 4, 5, 0] rfl) hF
def fb_X0_laysSteps_59 (S : mSh) (k28 : mMm → Nat → Int32 → Int32 → Int32 → Option mMm) : Nat → mMm → Nat → Int32 → Int32 → Int32 → Int32 → Int32 → Option mMm
  | 0, _, _, _, _, _, _, _ => none
  | t + 1, M, x0, x1, x2, x3, x4, x5 => (if (576 : Int32) ≤ x5 then (fb_X0_laysSteps_140 S k28 M x0 x1 x2 x3 x4) else (if x3 ≤ 0 then (fb_X0_laysSteps_140 S k28 M x0 x1 x2 x3 x4) else ob (rR S M x0 1 10) fun v28 => ob (rR S M x0 1 10) fun v30 => ob (aI S M v30 100 (((x4 - (576 : Int32)) + ((x5 / (4 : Int32)) * (4 : Int32))) + ((x5 + (1 : Int32)) - (x5 + (1 : Int32)) / (4 : Int32) * (4 : Int32)))) fun v32 => ob (rR S M x0 1 10) fun v34 => ob (aI S M v34 100 (((x4 - (576 : Int32)) + ((x5 / (4 : Int32)) * (4 : Int32))) + ((x5 + (3 : Int32)) - (x5 + (3 : Int32)) / (4 : Int32) * (4 : Int32)))) fun v36 => ob (f_J4_min v32 v36) fun v39 => ob (wA S M v28 100 (x4 + x5) (.int v39)) fun M40 => nm (x5 + (1 : Int32)) fun v42 => (fb_X0_laysSteps_59 S k28 t M40 x0 x1 x2 x3 x4 v42)))
theorem b_X0_laysSteps_59 {M' : mMm} (X : mCx D n0 P p m c cX0_laysSteps 8 s args yX0_laysSteps.cls meth none) (k28 : mMm → Nat → Int32 → Int32 → Int32 → Option mMm) (hk28 : ∀ (M : mMm) (x0 : Nat) (x1 : Int32) (x2 : Int32) (x3 : Int32) (H : Heap) (locs : List Loc) (ls : Array Slot), mHp D n0 S M n s H locs → lv_has ls 8 [(0, .ref x0), (1, .int x1), (2, .int x2), (3, .int x3)] → k28 M x0 x1 x2 x3 = some M' → W p l e Rm_X0_laysSteps s m args below meth c H locs 0 0 (MQ below (mQ D n0 none S M' n) args s 0 0 (mA n0)) (F0 m 28 ls [])) : ∀ t : Nat, ∀ (M : mMm) (x0 : Nat) (x1 : Int32) (x2 : Int32) (x3 : Int32) (x4 : Int32) (x5 : Int32) (H : Heap) (locs : List Loc) (ls : Array Slot), mHp D n0 S M n s H locs → lv_has ls 8 [(0, .ref x0), (1, .int x1), (2, .int x2), (3, .int x3), (4, .int x4), (5, .int x5)] → fb_X0_laysSteps_59 S k28 t M x0 x1 x2 x3 x4 x5 = some M' → W p l e Rm_X0_laysSteps s m args below meth c H locs 0 0 (MQ below (mQ D n0 none S M' n) args s 0 0 (mA n0)) (F0 m 59 ls []) := by
  have hx := X.1.1
  have hb := X.1.2.1
  have hown := X.1.2.2.2.1
  have hts := X.1.2.2.2.2
  intro t
  induction t with
  | zero =>
    intro M x0 x1 x2 x3 x4 x5 H locs ls hp hl hF
    have hF : none = some M' := hF
    cases hF
  | succ t ih =>
    intro M x0 x1 x2 x3 x4 x5 H locs ls hp hl hF
    rw [fb_X0_laysSteps_59] at hF
    refine lv_iload hx hb dX0_laysSteps_59 (lv_at hl 5 rfl) ?_
    refine lv_sipush (v := 576) hx hb dX0_laysSteps_61 (by decide) ?_
    refine lv_icmp_ge (tgt := 140) hx hb dX0_laysSteps_64 (by decide) (fun c26 => ?_) (fun c26 => ?_)
    · have hF := if_p c26 hF
      exact b_X0_laysSteps_140 X _ hk28 _ _ _ _ _ _ _ _ _ hp (lv_sub hl [0, 1, 2, 3, 4] rfl) hF
    · have hF := if_n c26 hF
      refine lv_iload_n hx hb dX0_laysSteps_67 rfl (lv_at hl 3 rfl) ?_
      refine lv_if_le (tgt := 140) hx hb dX0_laysSteps_68 (by decide) (fun c27 => ?_) (fun c27 => ?_)
      · have hF := if_p c27 hF
        exact b_X0_laysSteps_140 X _ hk28 _ _ _ _ _ _ _ _ _ hp (lv_sub hl [0, 1, 2, 3, 4] rfl) hF
      · have hF := if_n c27 hF
        refine lv_aload_n hx hb dX0_laysSteps_71 rfl (lv_at hl 0 rfl) ?_
        obtain ⟨v28, e29, hF⟩ := ob_s hF
        refine m_getR X hp e29 kX0 (Nat.le_of_ble_eq_true rfl) q470 dX0_laysSteps_72 ?_
        refine lv_iload hx hb dX0_laysSteps_75 (lv_at hl 4 rfl) ?_
        refine lv_iload hx hb dX0_laysSteps_77 (lv_at hl 5 rfl) ?_
        refine lv_iadd hx hb dX0_laysSteps_79 ?_
        refine lv_aload_n hx hb dX0_laysSteps_80 rfl (lv_at hl 0 rfl) ?_
        obtain ⟨v30, e31, hF⟩ := ob_s hF
        refine m_getR X hp e31 kX0 (Nat.le_of_ble_eq_true rfl) q470 dX0_laysSteps_81 ?_
        refine lv_iload hx hb dX0_laysSteps_84 (lv_at hl 4 rfl) ?_
        refine lv_sipush (v := 576) hx hb dX0_laysSteps_86 (by decide) ?_
        refine lv_isub hx hb dX0_laysSteps_89 ?_
        refine lv_iload hx hb dX0_laysSteps_90 (lv_at hl 5 rfl) ?_
        refine lv_iconst (v := 4) hx hb dX0_laysSteps_92 (by decide) ?_
        refine lv_idiv hx hb dX0_laysSteps_93 (by decide) ?_
        refine lv_iconst (v := 4) hx hb dX0_laysSteps_94 (by decide) ?_
        refine lv_imul hx hb dX0_laysSteps_95 ?_
        refine lv_iadd hx hb dX0_laysSteps_96 ?_
        refine lv_iload hx hb dX0_laysSteps_97 (lv_at hl 5 rfl) ?_
        refine lv_iconst (v := 1) hx hb dX0_laysSteps_99 (by decide) ?_
        refine lv_iadd hx hb dX0_laysSteps_100 ?_
        refine lv_iconst (v := 4) hx hb dX0_laysSteps_101 (by decide) ?_
        refine lv_irem hx hb dX0_laysSteps_102 (by decide) ?_
        refine lv_iadd hx hb dX0_laysSteps_103 ?_
        obtain ⟨v32, e33, hF⟩ := ob_s hF
        refine m_iaI X hp e33 dX0_laysSteps_104 ?_
        refine lv_aload_n hx hb dX0_laysSteps_105 rfl (lv_at hl 0 rfl) ?_
        obtain ⟨v34, e35, hF⟩ := ob_s hF
        refine m_getR X hp e35 kX0 (Nat.le_of_ble_eq_true rfl) q470 dX0_laysSteps_106 ?_
        refine lv_iload hx hb dX0_laysSteps_109 (lv_at hl 4 rfl) ?_
        refine lv_sipush (v := 576) hx hb dX0_laysSteps_111 (by decide) ?_
        refine lv_isub hx hb dX0_laysSteps_114 ?_
        refine lv_iload hx hb dX0_laysSteps_115 (lv_at hl 5 rfl) ?_
        refine lv_iconst (v := 4) hx hb dX0_laysSteps_117 (by decide) ?_
        refine lv_idiv hx hb dX0_laysSteps_118 (by decide) ?_
        refine lv_iconst (v := 4) hx hb dX0_laysSteps_119 (by decide) ?_
        refine lv_imul hx hb dX0_laysSteps_120 ?_
        refine lv_iadd hx hb dX0_laysSteps_121 ?_
        refine lv_iload hx hb dX0_laysSteps_122 (lv_at hl 5 rfl) ?_
        refine lv_iconst (v := 3) hx hb dX0_laysSteps_124 (by decide) ?_
        refine lv_iadd hx hb dX0_laysSteps_125 ?_
        refine lv_iconst (v := 4) hx hb dX0_laysSteps_126 (by decide) ?_
        refine lv_irem hx hb dX0_laysSteps_127 (by decide) ?_
        refine lv_iadd hx hb dX0_laysSteps_128 ?_
        obtain ⟨v36, e37, hF⟩ := ob_s hF
        refine m_iaI X hp e37 dX0_laysSteps_129 ?_
        obtain ⟨v39, e38, hF⟩ := ob_s hF
        refine m_callS (As := [.int v32, .int v36]) (rest := [.int (x4 + x5), .ref v28]) X hp (w_J4_min e38) q1169 q368 q141 q369 2 rfl ds_J4_min ⟨Nat.le_of_ble_eq_true rfl, Nat.le_of_ble_eq_true rfl⟩ hl.1 rfl (Nat.le_of_ble_eq_true rfl) dX0_laysSteps_130 ⟨Nat.le_refl 0, Nat.le_refl 0⟩ (fun H locs hp => ?_)
        obtain ⟨M40, e41, hF⟩ := ob_s hF
        refine m_iaW X hp e41 dX0_laysSteps_133 (fun H locs hp => ?_)
        obtain ⟨v42, ev43⟩ : ∃ y : Int32, y = x5 + (1 : Int32) := ⟨_, rfl⟩
        have hF := nm_s hF ev43
        refine lv_iinc (v := v42) (lv' := [(5, .int v42), (0, .ref x0), (1, .int x1), (2, .int x2), (3, .int x3), (4, .int x4)]) hx hb dX0_laysSteps_134 hl (k := 5) rfl (by rw [ev43]; rfl) (by decide) rfl (fun ls hl => ?_)
        refine lv_goto (tgt := 59) hx hb dX0_laysSteps_137 (by decide) ?_
        exact ih _ _ _ _ _ _ _ _ _ _ hp (lv_sub hl [1, 2, 3, 4, 5, 0] rfl) hF
def fb_X0_laysSteps_56 (S : mSh) (k28 : mMm → Nat → Int32 → Int32 → Int32 → Option mMm) (M : mMm) (x0 : Nat) (x1 : Int32) (x2 : Int32) (x3 : Int32) (x4 : Int32) : Option mMm := nm ((0 : Int32)) fun v24 => (fb_X0_laysSteps_59 S k28 FU M x0 x1 x2 x3 x4 v24)
theorem b_X0_laysSteps_56 {M' : mMm} (X : mCx D n0 P p m c cX0_laysSteps 8 s args yX0_laysSteps.cls meth none) (k28 : mMm → Nat → Int32 → Int32 → Int32 → Option mMm) (hk28 : ∀ (M : mMm) (x0 : Nat) (x1 : Int32) (x2 : Int32) (x3 : Int32) (H : Heap) (locs : List Loc) (ls : Array Slot), mHp D n0 S M n s H locs → lv_has ls 8 [(0, .ref x0), (1, .int x1), (2, .int x2), (3, .int x3)] → k28 M x0 x1 x2 x3 = some M' → W p l e Rm_X0_laysSteps s m args below meth c H locs 0 0 (MQ below (mQ D n0 none S M' n) args s 0 0 (mA n0)) (F0 m 28 ls [])) : ∀ (M : mMm) (x0 : Nat) (x1 : Int32) (x2 : Int32) (x3 : Int32) (x4 : Int32) (H : Heap) (locs : List Loc) (ls : Array Slot), mHp D n0 S M n s H locs → lv_has ls 8 [(0, .ref x0), (1, .int x1), (2, .int x2), (3, .int x3), (4, .int x4)] → fb_X0_laysSteps_56 S k28 M x0 x1 x2 x3 x4 = some M' → W p l e Rm_X0_laysSteps s m args below meth c H locs 0 0 (MQ below (mQ D n0 none S M' n) args s 0 0 (mA n0)) (F0 m 56 ls []) := by
  have hx := X.1.1
  have hb := X.1.2.1
  have hown := X.1.2.2.2.1
  have hts := X.1.2.2.2.2
  intro M x0 x1 x2 x3 x4 H locs ls hp hl hF
  unfold fb_X0_laysSteps_56 at hF
  refine lv_iconst (v := 0) hx hb dX0_laysSteps_56 (by decide) ?_
  refine lv_topi (fun v24 ev25 => ?_)
  have hF := nm_s hF ev25
  refine lv_istore (lv' := [(5, .int v24), (0, .ref x0), (1, .int x1), (2, .int x2), (3, .int x3), (4, .int x4)]) hx hb dX0_laysSteps_57 hl (by decide) rfl (fun ls hl => ?_)
  exact b_X0_laysSteps_59 X _ hk28 _ _ _ _ _ _ _ _ _ _ _ hp (lv_sub hl [1, 2, 3, 4, 5, 0] rfl) hF
def fb_X0_laysSteps_28 (S : mSh) : Nat → mMm → Nat → Int32 → Int32 → Int32 → Option mMm
  | 0, _, _, _, _, _ => none
  | t + 1, M, x0, x1, x2, x3 => (if (6 : Int32) < x3 then some M else nm (((576 : Int32) * x3)) fun v17 => (if x3 = 0 then ob (rR S M x0 1 10) fun v20 => ob (wA S M v20 100 (((4 : Int32) * x1) + x2) (.int (0 : Int32))) fun M22 => (fb_X0_laysSteps_56 S (fb_X0_laysSteps_28 S t) M22 x0 x1 x2 x3 v17) else (fb_X0_laysSteps_56 S (fb_X0_laysSteps_28 S t) M x0 x1 x2 x3 v17)))
theorem b_X0_laysSteps_28 {M' : mMm} (X : mCx D n0 P p m c cX0_laysSteps 8 s args yX0_laysSteps.cls meth none) : ∀ t : Nat, ∀ (M : mMm) (x0 : Nat) (x1 : Int32) (x2 : Int32) (x3 : Int32) (H : Heap) (locs : List Loc) (ls : Array Slot), mHp D n0 S M n s H locs → lv_has ls 8 [(0, .ref x0), (1, .int x1), (2, .int x2), (3, .int x3)] → fb_X0_laysSteps_28 S t M x0 x1 x2 x3 = some M' → W p l e Rm_X0_laysSteps s m args below meth c H locs 0 0 (MQ below (mQ D n0 none S M' n) args s 0 0 (mA n0)) (F0 m 28 ls []) := by
  have hx := X.1.1
  have hb := X.1.2.1
  have hown := X.1.2.2.2.1
  have hts := X.1.2.2.2.2
  intro t
  induction t with
  | zero =>
    intro M x0 x1 x2 x3 H locs ls hp hl hF
    have hF : none = some M' := hF
    cases hF
  | succ t ih =>
    intro M x0 x1 x2 x3 H locs ls hp hl hF
    rw [fb_X0_laysSteps_28] at hF
    refine lv_iload_n hx hb dX0_laysSteps_28 rfl (lv_at hl 3 rfl) ?_
    refine lv_bipush (v := 6) hx hb dX0_laysSteps_29 (by decide) ?_
    refine lv_icmp_gt (tgt := 292) hx hb dX0_laysSteps_31 (by decide) (fun c16 => ?_) (fun c16 => ?_)
    · have hF := if_p c16 hF
      cases hF
      exact m_vret X hp dX0_laysSteps_292
    · have hF := if_n c16 hF
      refine lv_sipush (v := 576) hx hb dX0_laysSteps_34 (by decide) ?_
      refine lv_iload_n hx hb dX0_laysSteps_37 rfl (lv_at hl 3 rfl) ?_
      refine lv_imul hx hb dX0_laysSteps_38 ?_
      refine lv_topi (fun v17 ev18 => ?_)
      have hF := nm_s hF ev18
      refine lv_istore (lv' := [(4, .int v17), (0, .ref x0), (1, .int x1), (2, .int x2), (3, .int x3)]) hx hb dX0_laysSteps_39 hl (by decide) rfl (fun ls hl => ?_)
      refine lv_iload_n hx hb dX0_laysSteps_41 rfl (lv_at hl 4 rfl) ?_
      refine lv_if_ne (tgt := 56) hx hb dX0_laysSteps_42 (by decide) (fun c19 => ?_) (fun c19 => ?_)
      · have hF := if_n c19 hF
        exact b_X0_laysSteps_56 X _ ih _ _ _ _ _ _ _ _ _ hp (lv_sub hl [1, 2, 3, 4, 0] rfl) hF
      · have hF := if_p c19 hF
        refine lv_aload_n hx hb dX0_laysSteps_45 rfl (lv_at hl 1 rfl) ?_
        obtain ⟨v20, e21, hF⟩ := ob_s hF
        refine m_getR X hp e21 kX0 (Nat.le_of_ble_eq_true rfl) q470 dX0_laysSteps_46 ?_
        refine lv_iconst (v := 4) hx hb dX0_laysSteps_49 (by decide) ?_
        refine lv_iload_n hx hb dX0_laysSteps_50 rfl (lv_at hl 2 rfl) ?_
        refine lv_imul hx hb dX0_laysSteps_51 ?_
        refine lv_iload_n hx hb dX0_laysSteps_52 rfl (lv_at hl 3 rfl) ?_
        refine lv_iadd hx hb dX0_laysSteps_53 ?_
        refine lv_iconst (v := 0) hx hb dX0_laysSteps_54 (by decide) ?_
        obtain ⟨M22, e23, hF⟩ := ob_s hF
        refine m_iaW X hp e23 dX0_laysSteps_55 (fun H locs hp => ?_)
        exact b_X0_laysSteps_56 X _ ih _ _ _ _ _ _ _ _ _ hp (lv_sub hl [1, 2, 3, 4, 0] rfl) hF
def fb_X0_laysSteps_2 (S : mSh) : Nat → mMm → Nat → Int32 → Int32 → Int32 → Option mMm
  | 0, _, _, _, _, _ => none
  | t + 1, M, x0, x1, x2, x3 => ob (rR S M x0 1 10) fun v3 => ob (aN S v3 100) fun v5 => (if v5 ≤ x3 then nm ((0 : Int32)) fun v8 => (fb_X0_laysSteps_28 S FU M x0 x1 x2 v8) else ob (rR S M x0 1 10) fun v10 => ob (wA S M v10 100 x3 (.int (1000000 : Int32))) fun M12 => nm (x3 + (1 : Int32)) fun v14 => (fb_X0_laysSteps_2 S t M12 x0 x1 x2 v14))
theorem b_X0_laysSteps_2 {M' : mMm} (X : mCx D n0 P p m c cX0_laysSteps 8 s args yX0_laysSteps.cls meth none) : ∀ t : Nat, ∀ (M : mMm) (x0 : Nat) (x1 : Int32) (x2 : Int32) (x3 : Int32) (H : Heap) (locs : List Loc) (ls : Array Slot), mHp D n0 S M n s H locs → lv_has ls 8 [(0, .ref x0), (1, .int x1), (2, .int x2), (3, .int x3)] → fb_X0_laysSteps_2 S t M x0 x1 x2 x3 = some M' → W p l e Rm_X0_laysSteps s m args below meth c H locs 0 0 (MQ below (mQ D n0 none S M' n) args s 0 0 (mA n0)) (F0 m 2 ls []) := by
  have hx := X.1.1
  have hb := X.1.2.1
  have hown := X.1.2.2.2.1
  have hts := X.1.2.2.2.2
  intro t
  induction t with
  | zero =>
    intro M x0 x1 x2 x3 H locs ls hp hl hF
    have hF : none = some M' := hF
    cases hF
  | succ t ih =>
    intro M x0 x1 x2 x3 H locs ls hp hl hF
    rw [fb_X0_laysSteps_2] at hF
    refine lv_iload_n hx hb dX0_laysSteps_2 rfl (lv_at hl 3 rfl) ?_
    refine lv_aload_n hx hb dX0_laysSteps_3 rfl (lv_at hl 0 rfl) ?_
    obtain ⟨v3, e4, hF⟩ := ob_s hF
    refine m_getR X hp e4 kX0 (Nat.le_of_ble_eq_true rfl) q470 dX0_laysSteps_4 ?_
    obtain ⟨v5, e6, hF⟩ := ob_s hF
    refine m_aln 100 X hp e6 rfl (by decide) dX0_laysSteps_7 ?_
    refine lv_icmp_ge (tgt := 26) hx hb dX0_laysSteps_8 (by decide) (fun c7 => ?_) (fun c7 => ?_)
    · have hF := if_p c7 hF
      refine lv_iconst (v := 0) hx hb dX0_laysSteps_26 (by decide) ?_
      refine lv_topi (fun v8 ev9 => ?_)
      have hF := nm_s hF ev9
      refine lv_istore_n (lv' := [(3, .int v8), (0, .ref x0), (1, .int x1), (2, .int x2)]) hx hb dX0_laysSteps_27 rfl hl (by decide) rfl (fun ls hl => ?_)
      exact b_X0_laysSteps_28 X _ _ _ _ _ _ _ _ _ hp (lv_sub hl [1, 2, 3, 0] rfl) hF
    · have hF := if_n c7 hF
      refine lv_aload_n hx hb dX0_laysSteps_11 rfl (lv_at hl 0 rfl) ?_
      obtain ⟨v10, e11, hF⟩ := ob_s hF
      refine m_getR X hp e11 kX0 (Nat.le_of_ble_eq_true rfl) q470 dX0_laysSteps_12 ?_
      refine lv_iload_n hx hb dX0_laysSteps_15 rfl (lv_at hl 3 rfl) ?_
      refine lv_ldcw hx hb hown (hts _ q1236) dX0_laysSteps_16 ?_
      obtain ⟨M12, e13, hF⟩ := ob_s hF
      refine m_iaW X hp e13 dX0_laysSteps_19 (fun H locs hp => ?_)
      obtain ⟨v14, ev15⟩ : ∃ y : Int32, y = x3 + (1 : Int32) := ⟨_, rfl⟩
      have hF := nm_s hF ev15
      refine lv_iinc (v := v14) (lv' := [(3, .int v14), (0, .ref x0), (1, .int x1), (2, .int x2)]) hx hb dX0_laysSteps_20 hl (k := 3) rfl (by rw [ev15]; rfl) (by decide) rfl (fun ls hl => ?_)
      refine lv_goto (tgt := 2) hx hb dX0_laysSteps_23 (by decide) ?_
      exact ih _ _ _ _ _ _ _ _ hp (lv_sub hl [1, 2, 3, 0] rfl) hF
def f_X0_laysSteps (S : mSh) (M : mMm) (x0 : Nat) (x1 : Int32) (x2 : Int32) : Option mMm := nm ((0 : Int32)) fun v1 => (fb_X0_laysSteps_2 S FU M x0 x1 x2 v1)
theorem w_X0_laysSteps {x0 : Nat} {x1 : Int32} {x2 : Int32} {M' : mMm} (hF : f_X0_laysSteps S M x0 x1 x2 = some M') : mCt l D n0 P yX0_laysSteps cX0_laysSteps 8 none 3 66 0 0 [.ref x0, .int x1, .int x2] S M n none S M' n := by
  refine m_ofW (by decide) (Nat.le_of_ble_eq_true rfl) (fun p e s m below meth c X hnm hp ls hl => ?_)
  have hx := X.1.1
  have hb := X.1.2.1
  have hown := X.1.2.2.2.1
  have hts := X.1.2.2.2.2
  have hl : lv_has ls 8 [(0, .ref x0), (1, .int x1), (2, .int x2)] := hl
  unfold f_X0_laysSteps at hF
  refine lv_iconst (v := 0) hx hb dX0_laysSteps_0 (by decide) ?_
  refine lv_topi (fun v1 ev2 => ?_)
  have hF := nm_s hF ev2
  refine lv_istore_n (lv' := [(3, .int v1), (0, .ref x0), (1, .int x1), (2, .int x2)]) hx hb dX0_laysSteps_1 rfl hl (by decide) rfl (fun ls hl => ?_)
  exact b_X0_laysSteps_2 X _ _ _ _ _ _ _ _ _ hp (lv_sub hl [1, 2, 3, 0] rfl) hF
end
section
variable {l : Launch} {D : va_G} {n0 : Nat} {P : mP} {S : mSh} {M : mMm} {n : Nat} {p : Program} {e : Env} {s : State} {m : MethodId} {args : Array Value} {below : List Frame} {meth : Method} {c : Code}
abbrev Rm_X0_far : Room := { frames := 4, cells := 0, slots := 0, locals := 93 }
def fb_X0_far_51 (S : mSh) : Nat → mMm → Nat → Int32 → Int32 → Int32 → Int32 → Option (Int32 × mMm)
  | 0, _, _, _, _, _, _ => none
  | t + 1, M, x0, x3, x4, x5, x6 => (if (4 : Int32) ≤ x6 then (if x5 = (1000000 : Int32) then some ((-1 : Int32), M) else some (x5, M)) else ob (rR S M x0 1 10) fun v21 => ob (aI S M v21 100 ((((576 : Int32) * x4) + ((4 : Int32) * x3)) + x6)) fun v23 => ob (f_J4_min x5 v23) fun v26 => nm (x6 + (1 : Int32)) fun v27 => (fb_X0_far_51 S t M x0 x3 x4 v26 v27))
theorem b_X0_far_51 {r : Int32} {M' : mMm} (X : mCx D n0 P p m c cX0_far 7 s args yX0_far.cls meth (some .int)) : ∀ t : Nat, ∀ (M : mMm) (x0 : Nat) (x3 : Int32) (x4 : Int32) (x5 : Int32) (x6 : Int32) (H : Heap) (locs : List Loc) (ls : Array Slot), mHp D n0 S M n s H locs → lv_has ls 7 [(0, .ref x0), (3, .int x3), (4, .int x4), (5, .int x5), (6, .int x6)] → fb_X0_far_51 S t M x0 x3 x4 x5 x6 = some (r, M') → W p l e Rm_X0_far s m args below meth c H locs 0 0 (MQ below (mQ D n0 (some (.int r)) S M' n) args s 0 0 (mA n0)) (F0 m 51 ls []) := by
  have hx := X.1.1
  have hb := X.1.2.1
  have hown := X.1.2.2.2.1
  have hts := X.1.2.2.2.2
  intro t
  induction t with
  | zero =>
    intro M x0 x3 x4 x5 x6 H locs ls hp hl hF
    have hF : none = some (r, M') := hF
    cases hF
  | succ t ih =>
    intro M x0 x3 x4 x5 x6 H locs ls hp hl hF
    rw [fb_X0_far_51] at hF
    refine lv_iload hx hb dX0_far_51 (lv_at hl 4 rfl) ?_
    refine lv_iconst (v := 4) hx hb dX0_far_53 (by decide) ?_
    refine lv_icmp_ge (tgt := 88) hx hb dX0_far_54 (by decide) (fun c19 => ?_) (fun c19 => ?_)
    · have hF := if_p c19 hF
      refine lv_iload hx hb dX0_far_88 (lv_at hl 3 rfl) ?_
      refine lv_ldcw hx hb hown (hts _ q1236) dX0_far_90 ?_
      refine lv_icmp_ne (tgt := 100) hx hb dX0_far_93 (by decide) (fun c20 => ?_) (fun c20 => ?_)
      · have hF := if_n c20 hF
        refine lv_iload hx hb dX0_far_100 (lv_at hl 3 rfl) ?_
        cases hF
        exact m_iret X hp dX0_far_102
      · have hF := if_p c20 hF
        refine lv_iconst (v := -1) hx hb dX0_far_96 (by decide) ?_
        refine lv_goto (tgt := 102) hx hb dX0_far_97 (by decide) ?_
        cases hF
        exact m_iret X hp dX0_far_102
    · have hF := if_n c19 hF
      refine lv_iload hx hb dX0_far_57 (lv_at hl 3 rfl) ?_
      refine lv_aload_n hx hb dX0_far_59 rfl (lv_at hl 0 rfl) ?_
      obtain ⟨v21, e22, hF⟩ := ob_s hF
      refine m_getR X hp e22 kX0 (Nat.le_of_ble_eq_true rfl) q470 dX0_far_60 ?_
      refine lv_sipush (v := 576) hx hb dX0_far_63 (by decide) ?_
      refine lv_iload hx hb dX0_far_66 (lv_at hl 2 rfl) ?_
      refine lv_imul hx hb dX0_far_68 ?_
      refine lv_iconst (v := 4) hx hb dX0_far_69 (by decide) ?_
      refine lv_iload_n hx hb dX0_far_70 rfl (lv_at hl 1 rfl) ?_
      refine lv_imul hx hb dX0_far_71 ?_
      refine lv_iadd hx hb dX0_far_72 ?_
      refine lv_iload hx hb dX0_far_73 (lv_at hl 4 rfl) ?_
      refine lv_iadd hx hb dX0_far_75 ?_
      obtain ⟨v23, e24, hF⟩ := ob_s hF
      refine m_iaI X hp e24 dX0_far_76 ?_
      obtain ⟨v26, e25, hF⟩ := ob_s hF
      refine m_callS (As := [.int x5, .int v23]) (rest := []) X hp (w_J4_min e25) q1169 q368 q141 q369 2 rfl ds_J4_min ⟨Nat.le_of_ble_eq_true rfl, Nat.le_of_ble_eq_true rfl⟩ hl.1 rfl (Nat.le_of_ble_eq_true rfl) dX0_far_77 ⟨Nat.le_refl 0, Nat.le_refl 0⟩ (fun H locs hp => ?_)
      refine lv_istore (lv' := [(5, .int v26), (0, .ref x0), (3, .int x3), (4, .int x4), (6, .int x6)]) hx hb dX0_far_80 hl (by decide) rfl (fun ls hl => ?_)
      obtain ⟨v27, ev28⟩ : ∃ y : Int32, y = x6 + (1 : Int32) := ⟨_, rfl⟩
      have hF := nm_s hF ev28
      refine lv_iinc (v := v27) (lv' := [(6, .int v27), (5, .int v26), (0, .ref x0), (3, .int x3), (4, .int x4)]) hx hb dX0_far_82 hl (k := 4) rfl (by rw [ev28]; rfl) (by decide) rfl (fun ls hl => ?_)
      refine lv_goto (tgt := 51) hx hb dX0_far_85 (by decide) ?_
      exact ih _ _ _ _ _ _ _ _ _ hp (lv_sub hl [2, 3, 4, 1, 0] rfl) hF
def f_X0_far (S : mSh) (M : mMm) (x0 : Nat) (x1 : Int32) (x2 : Int32) (x3 : Int32) (x4 : Int32) : Option (Int32 × mMm) := gd ((S x0).1 = 1) (ob (f_X0_canAsk S M x0 x1 x2 x3) fun v3 => (if v3 = 0 then some ((-1 : Int32), M) else ob (f_X0_isIn x4 (-1 : Int32) (6 : Int32)) fun v6 => (if v6 = 0 then some ((-1 : Int32), M) else (if x4 = (-1 : Int32) then ob (f_X0_least S M x0 x1 x2 x3) fun ⟨v17, M18⟩ => some (v17, M18) else ob (f_X0_laysSteps S M x0 x1 x2) fun M11 => nm ((1000000 : Int32)) fun v12 => nm ((0 : Int32)) fun v14 => (fb_X0_far_51 S FU M11 x0 x3 x4 v12 v14)))))
theorem w_X0_far {x0 : Nat} {x1 : Int32} {x2 : Int32} {x3 : Int32} {x4 : Int32} {r : Int32} {M' : mMm} (hF : f_X0_far S M x0 x1 x2 x3 x4 = some (r, M')) : mCt l D n0 P yX0_far cX0_far 7 (some .int) 4 93 0 0 [.ref x0, .int x1, .int x2, .int x3, .int x4] S M n (some (.int r)) S M' n := by
  refine m_ofW (by decide) (Nat.le_of_ble_eq_true rfl) (fun p e s m below meth c X hnm hp ls hl => ?_)
  have hx := X.1.1
  have hb := X.1.2.1
  have hown := X.1.2.2.2.1
  have hts := X.1.2.2.2.2
  have hl : lv_has ls 7 [(0, .ref x0), (1, .int x1), (2, .int x2), (3, .int x3), (4, .int x4)] := hl
  unfold f_X0_far at hF
  refine lv_aload_n hx hb dX0_far_0 rfl (lv_at hl 0 rfl) ?_
  refine lv_iload_n hx hb dX0_far_1 rfl (lv_at hl 1 rfl) ?_
  refine lv_iload_n hx hb dX0_far_2 rfl (lv_at hl 2 rfl) ?_
  refine lv_iload_n hx hb dX0_far_3 rfl (lv_at hl 3 rfl) ?_
  obtain ⟨g1, hF⟩ := gd_s hF
  obtain ⟨v3, e2, hF⟩ := ob_s hF
  refine m_callV (As := [.int x1, .int x2, .int x3]) (rest := []) X hp (w_X0_canAsk e2) q1224 q1226 qs40 q132 q1227 3 rfl ds_X0_canAsk ⟨Nat.le_of_ble_eq_true rfl, Nat.le_of_ble_eq_true rfl⟩ 1 (T := TX0) (N := 30) rfl (by decide) g1 hl.1 rfl (Nat.le_of_ble_eq_true rfl) dX0_far_4 ⟨Nat.le_refl 0, Nat.le_refl 0⟩ (fun H locs hp => ?_)
  refine lv_if_eq (tgt := 21) hx hb dX0_far_7 (by decide) (fun c4 => ?_) (fun c4 => ?_)
  · have hF := if_p c4 hF
    refine lv_iconst (v := -1) hx hb dX0_far_21 (by decide) ?_
    cases hF
    exact m_iret X hp dX0_far_22
  · have hF := if_n c4 hF
    refine lv_iload hx hb dX0_far_10 (lv_at hl 4 rfl) ?_
    refine lv_iconst (v := -1) hx hb dX0_far_12 (by decide) ?_
    refine lv_bipush (v := 6) hx hb dX0_far_13 (by decide) ?_
    obtain ⟨v6, e5, hF⟩ := ob_s hF
    refine m_callS (As := [.int x4, .int (-1 : Int32), .int (6 : Int32)]) (rest := []) X hp (w_X0_isIn e5) q565 q566 q132 q567 3 rfl ds_X0_isIn ⟨Nat.le_of_ble_eq_true rfl, Nat.le_of_ble_eq_true rfl⟩ hl.1 rfl (Nat.le_of_ble_eq_true rfl) dX0_far_15 ⟨Nat.le_refl 0, Nat.le_refl 0⟩ (fun H locs hp => ?_)
    refine lv_if_ne (tgt := 23) hx hb dX0_far_18 (by decide) (fun c7 => ?_) (fun c7 => ?_)
    · have hF := if_n c7 hF
      refine lv_iload hx hb dX0_far_23 (lv_at hl 4 rfl) ?_
      refine lv_iconst (v := -1) hx hb dX0_far_25 (by decide) ?_
      refine lv_icmp_ne (tgt := 37) hx hb dX0_far_26 (by decide) (fun c8 => ?_) (fun c8 => ?_)
      · have hF := if_n c8 hF
        refine lv_aload_n hx hb dX0_far_37 rfl (lv_at hl 0 rfl) ?_
        refine lv_iload_n hx hb dX0_far_38 rfl (lv_at hl 1 rfl) ?_
        refine lv_iload_n hx hb dX0_far_39 rfl (lv_at hl 2 rfl) ?_
        obtain ⟨M11, e9, hF⟩ := ob_s hF
        refine m_callV (As := [.int x1, .int x2]) (rest := []) X hp (w_X0_laysSteps e9) q1242 q1244 qs44 q132 q1245 2 rfl ds_X0_laysSteps ⟨Nat.le_of_ble_eq_true rfl, Nat.le_of_ble_eq_true rfl⟩ 1 (T := TX0) (N := 30) rfl (by decide) g1 hl.1 rfl (Nat.le_of_ble_eq_true rfl) dX0_far_40 ⟨Nat.le_refl 0, Nat.le_refl 0⟩ (fun H locs hp => ?_)
        refine lv_ldcw hx hb hown (hts _ q1236) dX0_far_43 ?_
        refine lv_topi (fun v12 ev13 => ?_)
        have hF := nm_s hF ev13
        refine lv_istore (lv' := [(5, .int v12), (0, .ref x0), (1, .int x1), (2, .int x2), (3, .int x3), (4, .int x4)]) hx hb dX0_far_46 hl (by decide) rfl (fun ls hl => ?_)
        refine lv_iconst (v := 0) hx hb dX0_far_48 (by decide) ?_
        refine lv_topi (fun v14 ev15 => ?_)
        have hF := nm_s hF ev15
        refine lv_istore (lv' := [(6, .int v14), (5, .int v12), (0, .ref x0), (1, .int x1), (2, .int x2), (3, .int x3), (4, .int x4)]) hx hb dX0_far_49 hl (by decide) rfl (fun ls hl => ?_)
        exact b_X0_far_51 X _ _ _ _ _ _ _ _ _ _ hp (lv_sub hl [2, 5, 6, 1, 0] rfl) hF
      · have hF := if_p c8 hF
        refine lv_aload_n hx hb dX0_far_29 rfl (lv_at hl 0 rfl) ?_
        refine lv_iload_n hx hb dX0_far_30 rfl (lv_at hl 1 rfl) ?_
        refine lv_iload_n hx hb dX0_far_31 rfl (lv_at hl 2 rfl) ?_
        refine lv_iload_n hx hb dX0_far_32 rfl (lv_at hl 3 rfl) ?_
        obtain ⟨⟨v17, M18⟩, e16, hF⟩ := ob_s hF
        refine m_callV (As := [.int x1, .int x2, .int x3]) (rest := []) X hp (w_X0_least e16) q1232 q1234 qs42 q132 q1235 3 rfl ds_X0_least ⟨Nat.le_of_ble_eq_true rfl, Nat.le_of_ble_eq_true rfl⟩ 1 (T := TX0) (N := 30) rfl (by decide) g1 hl.1 rfl (Nat.le_of_ble_eq_true rfl) dX0_far_33 ⟨Nat.le_refl 0, Nat.le_refl 0⟩ (fun H locs hp => ?_)
        cases hF
        exact m_iret X hp dX0_far_36
    · have hF := if_p c7 hF
      refine lv_iconst (v := -1) hx hb dX0_far_21 (by decide) ?_
      cases hF
      exact m_iret X hp dX0_far_22
end
section
variable {l : Launch} {D : va_G} {n0 : Nat} {P : mP} {S : mSh} {M : mMm} {n : Nat} {p : Program} {e : Env} {s : State} {m : MethodId} {args : Array Value} {below : List Frame} {meth : Method} {c : Code}
abbrev Rm_X0_fault : Room := { frames := 0, cells := 0, slots := 0, locals := 0 }
def f_X0_fault (S : mSh) (M : mMm) (x0 : Nat) (x1 : Int32) : Option Int32 := (if x1 = 0 then ob (rI S M x0 1 2) fun v5 => some v5 else (if x1 = (1 : Int32) then ob (rI S M x0 1 3) fun v3 => some v3 else some (-1 : Int32)))
theorem w_X0_fault {x0 : Nat} {x1 : Int32} {r : Int32} (hF : f_X0_fault S M x0 x1 = some r) : mCt l D n0 P yX0_fault cX0_fault 2 (some .int) 0 0 0 0 [.ref x0, .int x1] S M n (some (.int r)) S M n := by
  refine m_ofW (by decide) (Nat.le_of_ble_eq_true rfl) (fun p e s m below meth c X hnm hp ls hl => ?_)
  have hx := X.1.1
  have hb := X.1.2.1
  have hown := X.1.2.2.2.1
  have hts := X.1.2.2.2.2
  have hl : lv_has ls 2 [(0, .ref x0), (1, .int x1)] := hl
  unfold f_X0_fault at hF
  refine lv_iload_n hx hb dX0_fault_0 rfl (lv_at hl 1 rfl) ?_
  refine lv_if_ne (tgt := 11) hx hb dX0_fault_1 (by decide) (fun c1 => ?_) (fun c1 => ?_)
  · have hF := if_n c1 hF
    refine lv_iload_n hx hb dX0_fault_11 rfl (lv_at hl 1 rfl) ?_
    refine lv_iconst (v := 1) hx hb dX0_fault_12 (by decide) ?_
    refine lv_icmp_ne (tgt := 23) hx hb dX0_fault_13 (by decide) (fun c2 => ?_) (fun c2 => ?_)
    · have hF := if_n c2 hF
      refine lv_iconst (v := -1) hx hb dX0_fault_23 (by decide) ?_
      cases hF
      exact m_iret X hp dX0_fault_24
    · have hF := if_p c2 hF
      refine lv_aload_n hx hb dX0_fault_16 rfl (lv_at hl 0 rfl) ?_
      obtain ⟨v3, e4, hF⟩ := ob_s hF
      refine m_getI X hp e4 kX0 (Nat.le_of_ble_eq_true rfl) q462 dX0_fault_17 ?_
      refine lv_goto (tgt := 24) hx hb dX0_fault_20 (by decide) ?_
      cases hF
      exact m_iret X hp dX0_fault_24
  · have hF := if_p c1 hF
    refine lv_aload_n hx hb dX0_fault_4 rfl (lv_at hl 0 rfl) ?_
    obtain ⟨v5, e6, hF⟩ := ob_s hF
    refine m_getI X hp e6 kX0 (Nat.le_of_ble_eq_true rfl) q461 dX0_fault_5 ?_
    refine lv_goto (tgt := 24) hx hb dX0_fault_8 (by decide) ?_
    cases hF
    exact m_iret X hp dX0_fault_24
end
section
variable {l : Launch} {D : va_G} {n0 : Nat} {P : mP} {S : mSh} {M : mMm} {n : Nat} {p : Program} {e : Env} {s : State} {m : MethodId} {args : Array Value} {below : List Frame} {meth : Method} {c : Code}
abbrev Rm_X0_word : Room := { frames := 0, cells := 0, slots := 0, locals := 0 }
def fb_X0_word_3 (S : mSh) : Nat → mMm → Nat → Int32 → Int32 → Option mMm
  | 0, _, _, _, _ => none
  | t + 1, M, x0, x1, x2 => (if x2 < 0 then some M else ob (rR S M x0 1 0) fun v4 => ob (rI S M x0 1 1) fun v6 => ob (wA S M v4 101 v6 (.int (x1 >>> (x2 &&& 31)).toInt8.toInt32.toInt8.toInt32)) fun M8 => ob (rI S M8 x0 1 1) fun v10 => ob (wF S M8 x0 1 1 (.int (v10 + (1 : Int32)))) fun M12 => nm (x2 + (-8 : Int32)) fun v14 => (fb_X0_word_3 S t M12 x0 x1 v14))
theorem b_X0_word_3 {M' : mMm} (X : mCx D n0 P p m c cX0_word 3 s args yX0_word.cls meth none) : ∀ t : Nat, ∀ (M : mMm) (x0 : Nat) (x1 : Int32) (x2 : Int32) (H : Heap) (locs : List Loc) (ls : Array Slot), mHp D n0 S M n s H locs → lv_has ls 3 [(0, .ref x0), (1, .int x1), (2, .int x2)] → fb_X0_word_3 S t M x0 x1 x2 = some M' → W p l e Rm_X0_word s m args below meth c H locs 0 0 (MQ below (mQ D n0 none S M' n) args s 0 0 (mA n0)) (F0 m 3 ls []) := by
  have hx := X.1.1
  have hb := X.1.2.1
  have hown := X.1.2.2.2.1
  have hts := X.1.2.2.2.2
  intro t
  induction t with
  | zero =>
    intro M x0 x1 x2 H locs ls hp hl hF
    have hF : none = some M' := hF
    cases hF
  | succ t ih =>
    intro M x0 x1 x2 H locs ls hp hl hF
    rw [fb_X0_word_3] at hF
    refine lv_iload_n hx hb dX0_word_3 rfl (lv_at hl 2 rfl) ?_
    refine lv_if_lt (tgt := 36) hx hb dX0_word_4 (by decide) (fun c3 => ?_) (fun c3 => ?_)
    · have hF := if_p c3 hF
      cases hF
      exact m_vret X hp dX0_word_36
    · have hF := if_n c3 hF
      refine lv_aload_n hx hb dX0_word_7 rfl (lv_at hl 0 rfl) ?_
      obtain ⟨v4, e5, hF⟩ := ob_s hF
      refine m_getR X hp e5 kX0 (Nat.le_of_ble_eq_true rfl) q457 dX0_word_8 ?_
      refine lv_aload_n hx hb dX0_word_11 rfl (lv_at hl 0 rfl) ?_
      obtain ⟨v6, e7, hF⟩ := ob_s hF
      refine m_getI X hp e7 kX0 (Nat.le_of_ble_eq_true rfl) q460 dX0_word_12 ?_
      refine lv_iload_n hx hb dX0_word_15 rfl (lv_at hl 1 rfl) ?_
      refine lv_iload_n hx hb dX0_word_16 rfl (lv_at hl 2 rfl) ?_
      refine lv_ishr hx hb dX0_word_17 ?_
      refine lv_i2b hx hb dX0_word_18 rfl ?_
      obtain ⟨M8, e9, hF⟩ := ob_s hF
      refine m_baW X hp e9 dX0_word_19 (fun H locs hp => ?_)
      refine lv_aload_n hx hb dX0_word_20 rfl (lv_at hl 0 rfl) ?_
      refine lv_dup hx hb dX0_word_21 rfl ?_
      obtain ⟨v10, e11, hF⟩ := ob_s hF
      refine m_getI X hp e11 kX0 (Nat.le_of_ble_eq_true rfl) q460 dX0_word_22 ?_
      refine lv_iconst (v := 1) hx hb dX0_word_25 (by decide) ?_
      refine lv_iadd hx hb dX0_word_26 ?_
      obtain ⟨M12, e13, hF⟩ := ob_s hF
      refine m_putW X hp e13 kX0 (Nat.le_of_ble_eq_true rfl) q460 rfl rfl rfl dX0_word_27 (fun H locs hp => ?_)
      obtain ⟨v14, ev15⟩ : ∃ y : Int32, y = x2 + (-8 : Int32) := ⟨_, rfl⟩
      have hF := nm_s hF ev15
      refine lv_iinc (v := v14) (lv' := [(2, .int v14), (0, .ref x0), (1, .int x1)]) hx hb dX0_word_30 hl (k := 2) rfl (by rw [ev15]; rfl) (by decide) rfl (fun ls hl => ?_)
      refine lv_goto (tgt := 3) hx hb dX0_word_33 (by decide) ?_
      exact ih _ _ _ _ _ _ _ hp (lv_sub hl [1, 2, 0] rfl) hF
def f_X0_word (S : mSh) (M : mMm) (x0 : Nat) (x1 : Int32) : Option mMm := nm ((24 : Int32)) fun v1 => (fb_X0_word_3 S FU M x0 x1 v1)
theorem w_X0_word {x0 : Nat} {x1 : Int32} {M' : mMm} (hF : f_X0_word S M x0 x1 = some M') : mCt l D n0 P yX0_word cX0_word 3 none 0 0 0 0 [.ref x0, .int x1] S M n none S M' n := by
  refine m_ofW (by decide) (Nat.le_of_ble_eq_true rfl) (fun p e s m below meth c X hnm hp ls hl => ?_)
  have hx := X.1.1
  have hb := X.1.2.1
  have hown := X.1.2.2.2.1
  have hts := X.1.2.2.2.2
  have hl : lv_has ls 3 [(0, .ref x0), (1, .int x1)] := hl
  unfold f_X0_word at hF
  refine lv_bipush (v := 24) hx hb dX0_word_0 (by decide) ?_
  refine lv_topi (fun v1 ev2 => ?_)
  have hF := nm_s hF ev2
  refine lv_istore_n (lv' := [(2, .int v1), (0, .ref x0), (1, .int x1)]) hx hb dX0_word_2 rfl hl (by decide) rfl (fun ls hl => ?_)
  exact b_X0_word_3 X _ _ _ _ _ _ _ _ hp (lv_sub hl [1, 2, 0] rfl) hF
end
section
variable {l : Launch} {D : va_G} {n0 : Nat} {P : mP} {S : mSh} {M : mMm} {n : Nat} {p : Program} {e : Env} {s : State} {m : MethodId} {args : Array Value} {below : List Frame} {meth : Method} {c : Code}
abbrev Rm_X0_feed : Room := { frames := 1, cells := 0, slots := 0, locals := 22 }
def f_X0_feed (S : mSh) (M : mMm) (x0 : Nat) (x1 : Int32) (x2 : Int32) (x3 : Int32) (x4 : Int32) (x5 : Int32) : Option (Int32 × mMm) := ob (rI S M x0 1 1) fun v1 => (if (v1 + (20 : Int32)) ≤ (400 : Int32) then ob (f_X0_word S M x0 x1) fun M6 => ob (f_X0_word S M6 x0 x2) fun M9 => ob (f_X0_word S M9 x0 x3) fun M12 => ob (f_X0_word S M12 x0 x4) fun M15 => ob (f_X0_word S M15 x0 x5) fun M18 => ob (rI S M18 x0 1 1) fun v19 => some (v19, M18) else some ((-1 : Int32), M))
theorem w_X0_feed {x0 : Nat} {x1 : Int32} {x2 : Int32} {x3 : Int32} {x4 : Int32} {x5 : Int32} {r : Int32} {M' : mMm} (hF : f_X0_feed S M x0 x1 x2 x3 x4 x5 = some (r, M')) : mCt l D n0 P yX0_feed cX0_feed 6 (some .int) 1 22 0 0 [.ref x0, .int x1, .int x2, .int x3, .int x4, .int x5] S M n (some (.int r)) S M' n := by
  refine m_ofW (by decide) (Nat.le_of_ble_eq_true rfl) (fun p e s m below meth c X hnm hp ls hl => ?_)
  have hx := X.1.1
  have hb := X.1.2.1
  have hown := X.1.2.2.2.1
  have hts := X.1.2.2.2.2
  have hl : lv_has ls 6 [(0, .ref x0), (1, .int x1), (2, .int x2), (3, .int x3), (4, .int x4), (5, .int x5)] := hl
  unfold f_X0_feed at hF
  refine lv_aload_n hx hb dX0_feed_0 rfl (lv_at hl 0 rfl) ?_
  obtain ⟨v1, e2, hF⟩ := ob_s hF
  refine m_getI X hp e2 kX0 (Nat.le_of_ble_eq_true rfl) q460 dX0_feed_1 ?_
  refine lv_bipush (v := 20) hx hb dX0_feed_4 (by decide) ?_
  refine lv_iadd hx hb dX0_feed_6 ?_
  refine lv_sipush (v := 400) hx hb dX0_feed_7 (by decide) ?_
  refine lv_icmp_le (tgt := 15) hx hb dX0_feed_10 (by decide) (fun c3 => ?_) (fun c3 => ?_)
  · have hF := if_p c3 hF
    refine lv_aload_n hx hb dX0_feed_15 rfl (lv_at hl 0 rfl) ?_
    refine lv_iload_n hx hb dX0_feed_16 rfl (lv_at hl 1 rfl) ?_
    obtain ⟨M6, e4, hF⟩ := ob_s hF
    refine m_callV (As := [.int x1]) (rest := []) X hp (w_X0_word e4) q557 q559 qs3 q132 q560 1 rfl ds_X0_word ⟨Nat.le_of_ble_eq_true rfl, Nat.le_of_ble_eq_true rfl⟩ 1 (T := TX0) (N := 30) rfl (by decide) (rI_s e2).1 hl.1 rfl (Nat.le_of_ble_eq_true rfl) dX0_feed_17 ⟨Nat.le_refl 0, Nat.le_refl 0⟩ (fun H locs hp => ?_)
    refine lv_aload_n hx hb dX0_feed_20 rfl (lv_at hl 0 rfl) ?_
    refine lv_iload_n hx hb dX0_feed_21 rfl (lv_at hl 2 rfl) ?_
    obtain ⟨M9, e7, hF⟩ := ob_s hF
    refine m_callV (As := [.int x2]) (rest := []) X hp (w_X0_word e7) q557 q559 qs3 q132 q560 1 rfl ds_X0_word ⟨Nat.le_of_ble_eq_true rfl, Nat.le_of_ble_eq_true rfl⟩ 1 (T := TX0) (N := 30) rfl (by decide) (rI_s e2).1 hl.1 rfl (Nat.le_of_ble_eq_true rfl) dX0_feed_22 ⟨Nat.le_refl 0, Nat.le_refl 0⟩ (fun H locs hp => ?_)
    refine lv_aload_n hx hb dX0_feed_25 rfl (lv_at hl 0 rfl) ?_
    refine lv_iload_n hx hb dX0_feed_26 rfl (lv_at hl 3 rfl) ?_
    obtain ⟨M12, e10, hF⟩ := ob_s hF
    refine m_callV (As := [.int x3]) (rest := []) X hp (w_X0_word e10) q557 q559 qs3 q132 q560 1 rfl ds_X0_word ⟨Nat.le_of_ble_eq_true rfl, Nat.le_of_ble_eq_true rfl⟩ 1 (T := TX0) (N := 30) rfl (by decide) (rI_s e2).1 hl.1 rfl (Nat.le_of_ble_eq_true rfl) dX0_feed_27 ⟨Nat.le_refl 0, Nat.le_refl 0⟩ (fun H locs hp => ?_)
    refine lv_aload_n hx hb dX0_feed_30 rfl (lv_at hl 0 rfl) ?_
    refine lv_iload hx hb dX0_feed_31 (lv_at hl 4 rfl) ?_
    obtain ⟨M15, e13, hF⟩ := ob_s hF
    refine m_callV (As := [.int x4]) (rest := []) X hp (w_X0_word e13) q557 q559 qs3 q132 q560 1 rfl ds_X0_word ⟨Nat.le_of_ble_eq_true rfl, Nat.le_of_ble_eq_true rfl⟩ 1 (T := TX0) (N := 30) rfl (by decide) (rI_s e2).1 hl.1 rfl (Nat.le_of_ble_eq_true rfl) dX0_feed_33 ⟨Nat.le_refl 0, Nat.le_refl 0⟩ (fun H locs hp => ?_)
    refine lv_aload_n hx hb dX0_feed_36 rfl (lv_at hl 0 rfl) ?_
    refine lv_iload hx hb dX0_feed_37 (lv_at hl 5 rfl) ?_
    obtain ⟨M18, e16, hF⟩ := ob_s hF
    refine m_callV (As := [.int x5]) (rest := []) X hp (w_X0_word e16) q557 q559 qs3 q132 q560 1 rfl ds_X0_word ⟨Nat.le_of_ble_eq_true rfl, Nat.le_of_ble_eq_true rfl⟩ 1 (T := TX0) (N := 30) rfl (by decide) (rI_s e2).1 hl.1 rfl (Nat.le_of_ble_eq_true rfl) dX0_feed_39 ⟨Nat.le_refl 0, Nat.le_refl 0⟩ (fun H locs hp => ?_)
    refine lv_aload_n hx hb dX0_feed_42 rfl (lv_at hl 0 rfl) ?_
    obtain ⟨v19, e20, hF⟩ := ob_s hF
    refine m_getI X hp e20 kX0 (Nat.le_of_ble_eq_true rfl) q460 dX0_feed_43 ?_
    cases hF
    exact m_iret X hp dX0_feed_46
  · have hF := if_n c3 hF
    refine lv_iconst (v := -1) hx hb dX0_feed_13 (by decide) ?_
    cases hF
    exact m_iret X hp dX0_feed_14
end
section
variable {l : Launch} {D : va_G} {n0 : Nat} {P : mP} {S : mSh} {M : mMm} {n : Nat} {p : Program} {e : Env} {s : State} {m : MethodId} {args : Array Value} {below : List Frame} {meth : Method} {c : Code}
abbrev Rm_X0_flock : Room := { frames := 3, cells := 0, slots := 0, locals := 66 }
def fb_X0_flock_102 (S : mSh) (k41 : mMm → Nat → Nat → Int32 → Int32 → Int32 → Option (Int32 × mMm)) (M : mMm) (x0 : Nat) (x2 : Nat) (x3 : Int32) (x4 : Int32) (x5 : Int32) : Option (Int32 × mMm) := nm (x5 + (1 : Int32)) fun v45 => (k41 M x0 x2 x3 x4 v45)
theorem b_X0_flock_102 {r : Int32} {M' : mMm} (X : mCx D n0 P p m c cX0_flock 7 s args yX0_flock.cls meth (some .int)) (k41 : mMm → Nat → Nat → Int32 → Int32 → Int32 → Option (Int32 × mMm)) (hk41 : ∀ (M : mMm) (x0 : Nat) (x2 : Nat) (x3 : Int32) (x4 : Int32) (x5 : Int32) (H : Heap) (locs : List Loc) (ls : Array Slot), mHp D n0 S M n s H locs → lv_has ls 7 [(0, .ref x0), (2, .ref x2), (3, .int x3), (4, .int x4), (5, .int x5)] → k41 M x0 x2 x3 x4 x5 = some (r, M') → W p l e Rm_X0_flock s m args below meth c H locs 0 0 (MQ below (mQ D n0 (some (.int r)) S M' n) args s 0 0 (mA n0)) (F0 m 41 ls [])) : ∀ (M : mMm) (x0 : Nat) (x2 : Nat) (x3 : Int32) (x4 : Int32) (x5 : Int32) (H : Heap) (locs : List Loc) (ls : Array Slot), mHp D n0 S M n s H locs → lv_has ls 7 [(0, .ref x0), (2, .ref x2), (3, .int x3), (4, .int x4), (5, .int x5)] → fb_X0_flock_102 S k41 M x0 x2 x3 x4 x5 = some (r, M') → W p l e Rm_X0_flock s m args below meth c H locs 0 0 (MQ below (mQ D n0 (some (.int r)) S M' n) args s 0 0 (mA n0)) (F0 m 102 ls []) := by
  have hx := X.1.1
  have hb := X.1.2.1
  have hown := X.1.2.2.2.1
  have hts := X.1.2.2.2.2
  intro M x0 x2 x3 x4 x5 H locs ls hp hl hF
  unfold fb_X0_flock_102 at hF
  obtain ⟨v45, ev46⟩ : ∃ y : Int32, y = x5 + (1 : Int32) := ⟨_, rfl⟩
  have hF := nm_s hF ev46
  refine lv_iinc (v := v45) (lv' := [(5, .int v45), (0, .ref x0), (2, .ref x2), (3, .int x3), (4, .int x4)]) hx hb dX0_flock_102 hl (k := 4) rfl (by rw [ev46]; rfl) (by decide) rfl (fun ls hl => ?_)
  refine lv_goto (tgt := 41) hx hb dX0_flock_105 (by decide) ?_
  exact hk41 _ _ _ _ _ _ _ _ _ hp (lv_sub hl [1, 2, 3, 4, 0] rfl) hF
def fb_X0_flock_41 (S : mSh) (k32 : mMm → Nat → Nat → Int32 → Int32 → Option (Int32 × mMm)) : Nat → mMm → Nat → Nat → Int32 → Int32 → Int32 → Option (Int32 × mMm)
  | 0, _, _, _, _, _, _ => none
  | t + 1, M, x0, x2, x3, x4, x5 => (if (4 : Int32) ≤ x5 then nm (x4 + (1 : Int32)) fun v22 => (k32 M x0 x2 x3 v22) else ob (rR S M x0 1 11) fun v24 => ob (aI S M v24 100 x4) fun v26 => ob (f_X0_on v26 x5) fun v29 => (if v29 = (-1 : Int32) then (fb_X0_flock_102 S (fb_X0_flock_41 S k32 t) M x0 x2 x3 x4 x5) else ob (f_X0_isOpen S M x0 v29) fun v32 => (if v32 = 0 then (fb_X0_flock_102 S (fb_X0_flock_41 S k32 t) M x0 x2 x3 x4 x5) else ob (aI S M x2 102 v29) fun v34 => (if v34 = 0 then (fb_X0_flock_102 S (fb_X0_flock_41 S k32 t) M x0 x2 x3 x4 x5) else ob (wA S M x2 102 v29 (.int ((0 : Int32) &&& 1))) fun M37 => ob (rR S M37 x0 1 11) fun v39 => ob (wA S M37 v39 100 x3 (.int v29)) fun M41 => nm (x3 + (1 : Int32)) fun v43 => (fb_X0_flock_102 S (fb_X0_flock_41 S k32 t) M41 x0 x2 v43 x4 x5)))))
theorem b_X0_flock_41 {r : Int32} {M' : mMm} (X : mCx D n0 P p m c cX0_flock 7 s args yX0_flock.cls meth (some .int)) (k32 : mMm → Nat → Nat → Int32 → Int32 → Option (Int32 × mMm)) (hk32 : ∀ (M : mMm) (x0 : Nat) (x2 : Nat) (x3 : Int32) (x4 : Int32) (H : Heap) (locs : List Loc) (ls : Array Slot), mHp D n0 S M n s H locs → lv_has ls 7 [(0, .ref x0), (2, .ref x2), (3, .int x3), (4, .int x4)] → k32 M x0 x2 x3 x4 = some (r, M') → W p l e Rm_X0_flock s m args below meth c H locs 0 0 (MQ below (mQ D n0 (some (.int r)) S M' n) args s 0 0 (mA n0)) (F0 m 32 ls [])) : ∀ t : Nat, ∀ (M : mMm) (x0 : Nat) (x2 : Nat) (x3 : Int32) (x4 : Int32) (x5 : Int32) (H : Heap) (locs : List Loc) (ls : Array Slot), mHp D n0 S M n s H locs → lv_has ls 7 [(0, .ref x0), (2, .ref x2), (3, .int x3), (4, .int x4), (5, .int x5)] → fb_X0_flock_41 S k32 t M x0 x2 x3 x4 x5 = some (r, M') → W p l e Rm_X0_flock s m args below meth c H locs 0 0 (MQ below (mQ D n0 (some (.int r)) S M' n) args s 0 0 (mA n0)) (F0 m 41 ls []) := by
  have hx := X.1.1
  have hb := X.1.2.1
  have hown := X.1.2.2.2.1
  have hts := X.1.2.2.2.2
  intro t
  induction t with
  | zero =>
    intro M x0 x2 x3 x4 x5 H locs ls hp hl hF
    have hF : none = some (r, M') := hF
    cases hF
  | succ t ih =>
    intro M x0 x2 x3 x4 x5 H locs ls hp hl hF
    rw [fb_X0_flock_41] at hF
    refine lv_iload hx hb dX0_flock_41 (lv_at hl 4 rfl) ?_
    refine lv_iconst (v := 4) hx hb dX0_flock_43 (by decide) ?_
    refine lv_icmp_ge (tgt := 108) hx hb dX0_flock_44 (by decide) (fun c21 => ?_) (fun c21 => ?_)
    · have hF := if_p c21 hF
      obtain ⟨v22, ev23⟩ : ∃ y : Int32, y = x4 + (1 : Int32) := ⟨_, rfl⟩
      have hF := nm_s hF ev23
      refine lv_iinc (v := v22) (lv' := [(4, .int v22), (0, .ref x0), (2, .ref x2), (3, .int x3), (5, .int x5)]) hx hb dX0_flock_108 hl (k := 3) rfl (by rw [ev23]; rfl) (by decide) rfl (fun ls hl => ?_)
      refine lv_goto (tgt := 32) hx hb dX0_flock_111 (by decide) ?_
      exact hk32 _ _ _ _ _ _ _ _ hp (lv_sub hl [1, 2, 3, 0] rfl) hF
    · have hF := if_n c21 hF
      refine lv_aload_n hx hb dX0_flock_47 rfl (lv_at hl 0 rfl) ?_
      obtain ⟨v24, e25, hF⟩ := ob_s hF
      refine m_getR X hp e25 kX0 (Nat.le_of_ble_eq_true rfl) q471 dX0_flock_48 ?_
      refine lv_iload hx hb dX0_flock_51 (lv_at hl 3 rfl) ?_
      obtain ⟨v26, e27, hF⟩ := ob_s hF
      refine m_iaI X hp e27 dX0_flock_53 ?_
      refine lv_iload hx hb dX0_flock_54 (lv_at hl 4 rfl) ?_
      obtain ⟨v29, e28, hF⟩ := ob_s hF
      refine m_callS (As := [.int v26, .int x5]) (rest := []) X hp (w_X0_on e28) q1241 q1103 q132 q1104 2 rfl ds_X0_on ⟨Nat.le_of_ble_eq_true rfl, Nat.le_of_ble_eq_true rfl⟩ hl.1 rfl (Nat.le_of_ble_eq_true rfl) dX0_flock_56 ⟨Nat.le_refl 0, Nat.le_refl 0⟩ (fun H locs hp => ?_)
      refine lv_istore (lv' := [(6, .int v29), (0, .ref x0), (2, .ref x2), (3, .int x3), (4, .int x4), (5, .int x5)]) hx hb dX0_flock_59 hl (by decide) rfl (fun ls hl => ?_)
      refine lv_iload hx hb dX0_flock_61 (lv_at hl 0 rfl) ?_
      refine lv_iconst (v := -1) hx hb dX0_flock_63 (by decide) ?_
      refine lv_icmp_eq (tgt := 102) hx hb dX0_flock_64 (by decide) (fun c30 => ?_) (fun c30 => ?_)
      · have hF := if_p c30 hF
        exact b_X0_flock_102 X _ ih _ _ _ _ _ _ _ _ _ hp (lv_sub hl [1, 2, 3, 4, 5] rfl) hF
      · have hF := if_n c30 hF
        refine lv_aload_n hx hb dX0_flock_67 rfl (lv_at hl 1 rfl) ?_
        refine lv_iload hx hb dX0_flock_68 (lv_at hl 0 rfl) ?_
        obtain ⟨v32, e31, hF⟩ := ob_s hF
        refine m_callV (As := [.int v29]) (rest := []) X hp (w_X0_isOpen e31) q1228 q1230 qs41 q132 q1231 1 rfl ds_X0_isOpen ⟨Nat.le_of_ble_eq_true rfl, Nat.le_of_ble_eq_true rfl⟩ 1 (T := TX0) (N := 30) rfl (by decide) (rR_s e25).1 hl.1 rfl (Nat.le_of_ble_eq_true rfl) dX0_flock_70 ⟨Nat.le_refl 0, Nat.le_refl 0⟩ (fun H locs hp => ?_)
        refine lv_if_eq (tgt := 102) hx hb dX0_flock_73 (by decide) (fun c33 => ?_) (fun c33 => ?_)
        · have hF := if_p c33 hF
          exact b_X0_flock_102 X _ ih _ _ _ _ _ _ _ _ _ hp (lv_sub hl [1, 2, 3, 4, 5] rfl) hF
        · have hF := if_n c33 hF
          refine lv_aload_n hx hb dX0_flock_76 rfl (lv_at hl 2 rfl) ?_
          refine lv_iload hx hb dX0_flock_77 (lv_at hl 0 rfl) ?_
          obtain ⟨v34, e35, hF⟩ := ob_s hF
          refine m_zaI X hp e35 dX0_flock_79 ?_
          refine lv_if_ne (tgt := 86) hx hb dX0_flock_80 (by decide) (fun c36 => ?_) (fun c36 => ?_)
          · have hF := if_n c36 hF
            refine lv_aload_n hx hb dX0_flock_86 rfl (lv_at hl 2 rfl) ?_
            refine lv_iload hx hb dX0_flock_87 (lv_at hl 0 rfl) ?_
            refine lv_iconst (v := 0) hx hb dX0_flock_89 (by decide) ?_
            obtain ⟨M37, e38, hF⟩ := ob_s hF
            refine m_zaW X hp e38 dX0_flock_90 (fun H locs hp => ?_)
            refine lv_aload_n hx hb dX0_flock_91 rfl (lv_at hl 1 rfl) ?_
            obtain ⟨v39, e40, hF⟩ := ob_s hF
            refine m_getR X hp e40 kX0 (Nat.le_of_ble_eq_true rfl) q471 dX0_flock_92 ?_
            refine lv_iload_n hx hb dX0_flock_95 rfl (lv_at hl 3 rfl) ?_
            refine lv_iload hx hb dX0_flock_96 (lv_at hl 0 rfl) ?_
            obtain ⟨M41, e42, hF⟩ := ob_s hF
            refine m_iaW X hp e42 dX0_flock_98 (fun H locs hp => ?_)
            obtain ⟨v43, ev44⟩ : ∃ y : Int32, y = x3 + (1 : Int32) := ⟨_, rfl⟩
            have hF := nm_s hF ev44
            refine lv_iinc (v := v43) (lv' := [(3, .int v43), (6, .int v29), (0, .ref x0), (2, .ref x2), (4, .int x4), (5, .int x5)]) hx hb dX0_flock_99 hl (k := 3) rfl (by rw [ev44]; rfl) (by decide) rfl (fun ls hl => ?_)
            exact b_X0_flock_102 X _ ih _ _ _ _ _ _ _ _ _ hp (lv_sub hl [2, 3, 0, 4, 5] rfl) hF
          · have hF := if_p c36 hF
            refine lv_goto (tgt := 102) hx hb dX0_flock_83 (by decide) ?_
            exact b_X0_flock_102 X _ ih _ _ _ _ _ _ _ _ _ hp (lv_sub hl [1, 2, 3, 4, 5] rfl) hF
def fb_X0_flock_32 (S : mSh) : Nat → mMm → Nat → Nat → Int32 → Int32 → Option (Int32 × mMm)
  | 0, _, _, _, _, _ => none
  | t + 1, M, x0, x2, x3, x4 => (if x3 ≤ x4 then some (x3, M) else nm ((0 : Int32)) fun v19 => (fb_X0_flock_41 S (fb_X0_flock_32 S t) FU M x0 x2 x3 x4 v19))
theorem b_X0_flock_32 {r : Int32} {M' : mMm} (X : mCx D n0 P p m c cX0_flock 7 s args yX0_flock.cls meth (some .int)) : ∀ t : Nat, ∀ (M : mMm) (x0 : Nat) (x2 : Nat) (x3 : Int32) (x4 : Int32) (H : Heap) (locs : List Loc) (ls : Array Slot), mHp D n0 S M n s H locs → lv_has ls 7 [(0, .ref x0), (2, .ref x2), (3, .int x3), (4, .int x4)] → fb_X0_flock_32 S t M x0 x2 x3 x4 = some (r, M') → W p l e Rm_X0_flock s m args below meth c H locs 0 0 (MQ below (mQ D n0 (some (.int r)) S M' n) args s 0 0 (mA n0)) (F0 m 32 ls []) := by
  have hx := X.1.1
  have hb := X.1.2.1
  have hown := X.1.2.2.2.1
  have hts := X.1.2.2.2.2
  intro t
  induction t with
  | zero =>
    intro M x0 x2 x3 x4 H locs ls hp hl hF
    have hF : none = some (r, M') := hF
    cases hF
  | succ t ih =>
    intro M x0 x2 x3 x4 H locs ls hp hl hF
    rw [fb_X0_flock_32] at hF
    refine lv_iload hx hb dX0_flock_32 (lv_at hl 3 rfl) ?_
    refine lv_iload_n hx hb dX0_flock_34 rfl (lv_at hl 2 rfl) ?_
    refine lv_icmp_ge (tgt := 114) hx hb dX0_flock_35 (by decide) (fun c18 => ?_) (fun c18 => ?_)
    · have hF := if_p c18 hF
      refine lv_iload_n hx hb dX0_flock_114 rfl (lv_at hl 2 rfl) ?_
      cases hF
      exact m_iret X hp dX0_flock_115
    · have hF := if_n c18 hF
      refine lv_iconst (v := 0) hx hb dX0_flock_38 (by decide) ?_
      refine lv_topi (fun v19 ev20 => ?_)
      have hF := nm_s hF ev20
      refine lv_istore (lv' := [(5, .int v19), (0, .ref x0), (2, .ref x2), (3, .int x3), (4, .int x4)]) hx hb dX0_flock_39 hl (by decide) rfl (fun ls hl => ?_)
      exact b_X0_flock_41 X _ ih _ _ _ _ _ _ _ _ _ _ hp (lv_sub hl [1, 2, 3, 4, 0] rfl) hF
def f_X0_flock (S : mSh) (M : mMm) (x0 : Nat) (x1 : Int32) (x2 : Nat) : Option (Int32 × mMm) := gd ((S x0).1 = 1) (ob (f_X0_isOpen S M x0 x1) fun v3 => (if v3 = 0 then some ((0 : Int32), M) else ob (aI S M x2 102 x1) fun v5 => (if v5 = 0 then some ((0 : Int32), M) else ob (wA S M x2 102 x1 (.int ((0 : Int32) &&& 1))) fun M8 => ob (rR S M8 x0 1 11) fun v10 => ob (wA S M8 v10 100 (0 : Int32) (.int x1)) fun M12 => nm ((1 : Int32)) fun v14 => nm ((0 : Int32)) fun v16 => (fb_X0_flock_32 S FU M12 x0 x2 v14 v16))))
theorem w_X0_flock {x0 : Nat} {x1 : Int32} {x2 : Nat} {r : Int32} {M' : mMm} (hF : f_X0_flock S M x0 x1 x2 = some (r, M')) : mCt l D n0 P yX0_flock cX0_flock 7 (some .int) 3 66 0 0 [.ref x0, .int x1, .ref x2] S M n (some (.int r)) S M' n := by
  refine m_ofW (by decide) (Nat.le_of_ble_eq_true rfl) (fun p e s m below meth c X hnm hp ls hl => ?_)
  have hx := X.1.1
  have hb := X.1.2.1
  have hown := X.1.2.2.2.1
  have hts := X.1.2.2.2.2
  have hl : lv_has ls 7 [(0, .ref x0), (1, .int x1), (2, .ref x2)] := hl
  unfold f_X0_flock at hF
  refine lv_aload_n hx hb dX0_flock_0 rfl (lv_at hl 0 rfl) ?_
  refine lv_iload_n hx hb dX0_flock_1 rfl (lv_at hl 1 rfl) ?_
  obtain ⟨g1, hF⟩ := gd_s hF
  obtain ⟨v3, e2, hF⟩ := ob_s hF
  refine m_callV (As := [.int x1]) (rest := []) X hp (w_X0_isOpen e2) q1228 q1230 qs41 q132 q1231 1 rfl ds_X0_isOpen ⟨Nat.le_of_ble_eq_true rfl, Nat.le_of_ble_eq_true rfl⟩ 1 (T := TX0) (N := 30) rfl (by decide) g1 hl.1 rfl (Nat.le_of_ble_eq_true rfl) dX0_flock_2 ⟨Nat.le_refl 0, Nat.le_refl 0⟩ (fun H locs hp => ?_)
  refine lv_if_eq (tgt := 14) hx hb dX0_flock_5 (by decide) (fun c4 => ?_) (fun c4 => ?_)
  · have hF := if_p c4 hF
    refine lv_iconst (v := 0) hx hb dX0_flock_14 (by decide) ?_
    cases hF
    exact m_iret X hp dX0_flock_15
  · have hF := if_n c4 hF
    refine lv_aload_n hx hb dX0_flock_8 rfl (lv_at hl 2 rfl) ?_
    refine lv_iload_n hx hb dX0_flock_9 rfl (lv_at hl 1 rfl) ?_
    obtain ⟨v5, e6, hF⟩ := ob_s hF
    refine m_zaI X hp e6 dX0_flock_10 ?_
    refine lv_if_ne (tgt := 16) hx hb dX0_flock_11 (by decide) (fun c7 => ?_) (fun c7 => ?_)
    · have hF := if_n c7 hF
      refine lv_aload_n hx hb dX0_flock_16 rfl (lv_at hl 2 rfl) ?_
      refine lv_iload_n hx hb dX0_flock_17 rfl (lv_at hl 1 rfl) ?_
      refine lv_iconst (v := 0) hx hb dX0_flock_18 (by decide) ?_
      obtain ⟨M8, e9, hF⟩ := ob_s hF
      refine m_zaW X hp e9 dX0_flock_19 (fun H locs hp => ?_)
      refine lv_aload_n hx hb dX0_flock_20 rfl (lv_at hl 0 rfl) ?_
      obtain ⟨v10, e11, hF⟩ := ob_s hF
      refine m_getR X hp e11 kX0 (Nat.le_of_ble_eq_true rfl) q471 dX0_flock_21 ?_
      refine lv_iconst (v := 0) hx hb dX0_flock_24 (by decide) ?_
      refine lv_iload_n hx hb dX0_flock_25 rfl (lv_at hl 1 rfl) ?_
      obtain ⟨M12, e13, hF⟩ := ob_s hF
      refine m_iaW X hp e13 dX0_flock_26 (fun H locs hp => ?_)
      refine lv_iconst (v := 1) hx hb dX0_flock_27 (by decide) ?_
      refine lv_topi (fun v14 ev15 => ?_)
      have hF := nm_s hF ev15
      refine lv_istore_n (lv' := [(3, .int v14), (0, .ref x0), (1, .int x1), (2, .ref x2)]) hx hb dX0_flock_28 rfl hl (by decide) rfl (fun ls hl => ?_)
      refine lv_iconst (v := 0) hx hb dX0_flock_29 (by decide) ?_
      refine lv_topi (fun v16 ev17 => ?_)
      have hF := nm_s hF ev17
      refine lv_istore (lv' := [(4, .int v16), (3, .int v14), (0, .ref x0), (1, .int x1), (2, .ref x2)]) hx hb dX0_flock_30 hl (by decide) rfl (fun ls hl => ?_)
      exact b_X0_flock_32 X _ _ _ _ _ _ _ _ _ hp (lv_sub hl [2, 4, 1, 0] rfl) hF
    · have hF := if_p c7 hF
      refine lv_iconst (v := 0) hx hb dX0_flock_14 (by decide) ?_
      cases hF
      exact m_iret X hp dX0_flock_15
end
section
variable {l : Launch} {D : va_G} {n0 : Nat} {P : mP} {S : mSh} {M : mMm} {n : Nat} {p : Program} {e : Env} {s : State} {m : MethodId} {args : Array Value} {below : List Frame} {meth : Method} {c : Code}
abbrev Rm_X0_fold : Room := { frames := 1, cells := 0, slots := 0, locals := 20 }
def f_X0_fold (x0 : Int32) : Option Int32 := ob (f_J8_lowestOneBit x0) fun v2 => gd (¬ v2 = 0) ((if ((x0 / v2) - (x0 / v2) / (4 : Int32) * (4 : Int32)) = (1 : Int32) then some (1 : Int32) else some (0 : Int32)))
theorem w_X0_fold {x0 : Int32} {r : Int32} (hF : f_X0_fold x0 = some r) : mCt l D n0 P yX0_fold cX0_fold 1 (some .int) 1 20 0 0 [.int x0] S M n (some (.int r)) S M n := by
  refine m_ofW (by decide) (Nat.le_of_ble_eq_true rfl) (fun p e s m below meth c X hnm hp ls hl => ?_)
  have hx := X.1.1
  have hb := X.1.2.1
  have hown := X.1.2.2.2.1
  have hts := X.1.2.2.2.2
  have hl : lv_has ls 1 [(0, .int x0)] := hl
  unfold f_X0_fold at hF
  refine lv_iload_n hx hb dX0_fold_0 rfl (lv_at hl 0 rfl) ?_
  refine lv_iload_n hx hb dX0_fold_1 rfl (lv_at hl 0 rfl) ?_
  obtain ⟨v2, e1, hF⟩ := ob_s hF
  refine m_callS (As := [.int x0]) (rest := [.int x0]) X hp (w_J8_lowestOneBit e1) q1330 q1331 q147 q1332 1 rfl ds_J8_lowestOneBit ⟨Nat.le_of_ble_eq_true rfl, Nat.le_of_ble_eq_true rfl⟩ hl.1 rfl (Nat.le_of_ble_eq_true rfl) dX0_fold_2 ⟨Nat.le_refl 0, Nat.le_refl 0⟩ (fun H locs hp => ?_)
  obtain ⟨g3, hF⟩ := gd_s hF
  refine lv_idiv hx hb dX0_fold_5 g3 ?_
  refine lv_iconst (v := 4) hx hb dX0_fold_6 (by decide) ?_
  refine lv_irem hx hb dX0_fold_7 (by decide) ?_
  refine lv_iconst (v := 1) hx hb dX0_fold_8 (by decide) ?_
  refine lv_icmp_ne (tgt := 16) hx hb dX0_fold_9 (by decide) (fun c4 => ?_) (fun c4 => ?_)
  · have hF := if_n c4 hF
    refine lv_iconst (v := 0) hx hb dX0_fold_16 (by decide) ?_
    cases hF
    exact m_iret X hp dX0_fold_17
  · have hF := if_p c4 hF
    refine lv_iconst (v := 1) hx hb dX0_fold_12 (by decide) ?_
    refine lv_goto (tgt := 17) hx hb dX0_fold_13 (by decide) ?_
    cases hF
    exact m_iret X hp dX0_fold_17
end
section
variable {l : Launch} {D : va_G} {n0 : Nat} {P : mP} {S : mSh} {M : mMm} {n : Nat} {p : Program} {e : Env} {s : State} {m : MethodId} {args : Array Value} {below : List Frame} {meth : Method} {c : Code}
abbrev Rm_X0_folded : Room := { frames := 2, cells := 0, slots := 0, locals := 40 }
def fb_X0_folded_85 (k61 : Int32 → Int32 → Int32 → Int32 → Int32 → Int32 → Option Int32) (x1 : Int32) (x3 : Int32) (x4 : Int32) (x5 : Int32) (x7 : Int32) (y0 : Int32) (y1 : Int32) : Option Int32 := nm (((y1 + y0) - (y1 + y0) / (4 : Int32) * (4 : Int32))) fun v27 => ob (f_X0_right v27) fun v30 => nm ((x4 + v30)) fun v31 => ob (f_X0_up v27) fun v34 => nm ((x5 + v34)) fun v35 => nm (x7 + (1 : Int32)) fun v37 => (k61 x1 x3 v31 v35 v27 v37)
theorem b_X0_folded_85 {r : Int32} (X : mCx D n0 P p m c cX0_folded 8 s args yX0_folded.cls meth (some .int)) (k61 : Int32 → Int32 → Int32 → Int32 → Int32 → Int32 → Option Int32) (hk61 : ∀ (x1 : Int32) (x3 : Int32) (x4 : Int32) (x5 : Int32) (x6 : Int32) (x7 : Int32) (H : Heap) (locs : List Loc) (ls : Array Slot), mHp D n0 S M n s H locs → lv_has ls 8 [(1, .int x1), (3, .int x3), (4, .int x4), (5, .int x5), (6, .int x6), (7, .int x7)] → k61 x1 x3 x4 x5 x6 x7 = some r → W p l e Rm_X0_folded s m args below meth c H locs 0 0 (MQ below (mQ D n0 (some (.int r)) S M n) args s 0 0 (mA n0)) (F0 m 61 ls [])) : ∀ (x1 : Int32) (x3 : Int32) (x4 : Int32) (x5 : Int32) (x7 : Int32) (y0 : Int32) (y1 : Int32) (H : Heap) (locs : List Loc) (ls : Array Slot), mHp D n0 S M n s H locs → lv_has ls 8 [(1, .int x1), (3, .int x3), (4, .int x4), (5, .int x5), (7, .int x7)] → fb_X0_folded_85 k61 x1 x3 x4 x5 x7 y0 y1 = some r → W p l e Rm_X0_folded s m args below meth c H locs 0 0 (MQ below (mQ D n0 (some (.int r)) S M n) args s 0 0 (mA n0)) (F0 m 85 ls [.int y0, .int y1]) := by
  have hx := X.1.1
  have hb := X.1.2.1
  have hown := X.1.2.2.2.1
  have hts := X.1.2.2.2.2
  intro x1 x3 x4 x5 x7 y0 y1 H locs ls hp hl hF
  unfold fb_X0_folded_85 at hF
  refine lv_iadd hx hb dX0_folded_85 ?_
  refine lv_iconst (v := 4) hx hb dX0_folded_86 (by decide) ?_
  refine lv_irem hx hb dX0_folded_87 (by decide) ?_
  refine lv_topi (fun v27 ev28 => ?_)
  have hF := nm_s hF ev28
  refine lv_istore (lv' := [(6, .int v27), (1, .int x1), (3, .int x3), (4, .int x4), (5, .int x5), (7, .int x7)]) hx hb dX0_folded_88 hl (by decide) rfl (fun ls hl => ?_)
  refine lv_iload hx hb dX0_folded_90 (lv_at hl 3 rfl) ?_
  refine lv_iload hx hb dX0_folded_92 (lv_at hl 0 rfl) ?_
  obtain ⟨v30, e29, hF⟩ := ob_s hF
  refine m_callS (As := [.int v27]) (rest := [.int x4]) X hp (w_X0_right e29) q1105 q1106 q132 q1107 1 rfl ds_X0_right ⟨Nat.le_of_ble_eq_true rfl, Nat.le_of_ble_eq_true rfl⟩ hl.1 rfl (Nat.le_of_ble_eq_true rfl) dX0_folded_94 ⟨Nat.le_refl 0, Nat.le_refl 0⟩ (fun H locs hp => ?_)
  refine lv_iadd hx hb dX0_folded_97 ?_
  refine lv_topi (fun v31 ev32 => ?_)
  have hF := nm_s hF ev32
  refine lv_istore (lv' := [(4, .int v31), (6, .int v27), (1, .int x1), (3, .int x3), (5, .int x5), (7, .int x7)]) hx hb dX0_folded_98 hl (by decide) rfl (fun ls hl => ?_)
  refine lv_iload hx hb dX0_folded_100 (lv_at hl 4 rfl) ?_
  refine lv_iload hx hb dX0_folded_102 (lv_at hl 1 rfl) ?_
  obtain ⟨v34, e33, hF⟩ := ob_s hF
  refine m_callS (As := [.int v27]) (rest := [.int x5]) X hp (w_X0_up e33) q1108 q1109 q132 q1110 1 rfl ds_X0_up ⟨Nat.le_of_ble_eq_true rfl, Nat.le_of_ble_eq_true rfl⟩ hl.1 rfl (Nat.le_of_ble_eq_true rfl) dX0_folded_104 ⟨Nat.le_refl 0, Nat.le_refl 0⟩ (fun H locs hp => ?_)
  refine lv_iadd hx hb dX0_folded_107 ?_
  refine lv_topi (fun v35 ev36 => ?_)
  have hF := nm_s hF ev36
  refine lv_istore (lv' := [(5, .int v35), (4, .int v31), (6, .int v27), (1, .int x1), (3, .int x3), (7, .int x7)]) hx hb dX0_folded_108 hl (by decide) rfl (fun ls hl => ?_)
  obtain ⟨v37, ev38⟩ : ∃ y : Int32, y = x7 + (1 : Int32) := ⟨_, rfl⟩
  have hF := nm_s hF ev38
  refine lv_iinc (v := v37) (lv' := [(7, .int v37), (5, .int v35), (4, .int v31), (6, .int v27), (1, .int x1), (3, .int x3)]) hx hb dX0_folded_110 hl (k := 5) rfl (by rw [ev38]; rfl) (by decide) rfl (fun ls hl => ?_)
  refine lv_goto (tgt := 61) hx hb dX0_folded_113 (by decide) ?_
  exact hk61 _ _ _ _ _ _ _ _ _ hp (lv_sub hl [4, 5, 2, 1, 3, 0] rfl) hF
def fb_X0_folded_61 : Nat → Int32 → Int32 → Int32 → Int32 → Int32 → Int32 → Option Int32
  | 0, _, _, _, _, _, _ => none
  | t + 1, x1, x3, x4, x5, x6, x7 => (if ((1 : Int32) <<< (x1 &&& 31)) ≤ x7 then (if x3 = (1 : Int32) then some x4 else some x5) else ob (f_X0_fold x7) fun v25 => (if v25 = (1 : Int32) then (fb_X0_folded_85 (fb_X0_folded_61 t) x1 x3 x4 x5 x7 (1 : Int32) x6) else (fb_X0_folded_85 (fb_X0_folded_61 t) x1 x3 x4 x5 x7 (3 : Int32) x6)))
theorem b_X0_folded_61 {r : Int32} (X : mCx D n0 P p m c cX0_folded 8 s args yX0_folded.cls meth (some .int)) : ∀ t : Nat, ∀ (x1 : Int32) (x3 : Int32) (x4 : Int32) (x5 : Int32) (x6 : Int32) (x7 : Int32) (H : Heap) (locs : List Loc) (ls : Array Slot), mHp D n0 S M n s H locs → lv_has ls 8 [(1, .int x1), (3, .int x3), (4, .int x4), (5, .int x5), (6, .int x6), (7, .int x7)] → fb_X0_folded_61 t x1 x3 x4 x5 x6 x7 = some r → W p l e Rm_X0_folded s m args below meth c H locs 0 0 (MQ below (mQ D n0 (some (.int r)) S M n) args s 0 0 (mA n0)) (F0 m 61 ls []) := by
  have hx := X.1.1
  have hb := X.1.2.1
  have hown := X.1.2.2.2.1
  have hts := X.1.2.2.2.2
  intro t
  induction t with
  | zero =>
    intro x1 x3 x4 x5 x6 x7 H locs ls hp hl hF
    have hF : none = some r := hF
    cases hF
  | succ t ih =>
    intro x1 x3 x4 x5 x6 x7 H locs ls hp hl hF
    rw [fb_X0_folded_61] at hF
    refine lv_iload hx hb dX0_folded_61 (lv_at hl 5 rfl) ?_
    refine lv_iconst (v := 1) hx hb dX0_folded_63 (by decide) ?_
    refine lv_iload_n hx hb dX0_folded_64 rfl (lv_at hl 0 rfl) ?_
    refine lv_ishl hx hb dX0_folded_65 ?_
    refine lv_icmp_ge (tgt := 116) hx hb dX0_folded_66 (by decide) (fun c22 => ?_) (fun c22 => ?_)
    · have hF := if_p c22 hF
      refine lv_iload_n hx hb dX0_folded_116 rfl (lv_at hl 1 rfl) ?_
      refine lv_iconst (v := 1) hx hb dX0_folded_117 (by decide) ?_
      refine lv_icmp_ne (tgt := 126) hx hb dX0_folded_118 (by decide) (fun c23 => ?_) (fun c23 => ?_)
      · have hF := if_n c23 hF
        refine lv_iload hx hb dX0_folded_126 (lv_at hl 3 rfl) ?_
        cases hF
        exact m_iret X hp dX0_folded_128
      · have hF := if_p c23 hF
        refine lv_iload hx hb dX0_folded_121 (lv_at hl 2 rfl) ?_
        refine lv_goto (tgt := 128) hx hb dX0_folded_123 (by decide) ?_
        cases hF
        exact m_iret X hp dX0_folded_128
    · have hF := if_n c22 hF
      refine lv_iload hx hb dX0_folded_69 (lv_at hl 4 rfl) ?_
      refine lv_iload hx hb dX0_folded_71 (lv_at hl 5 rfl) ?_
      obtain ⟨v25, e24, hF⟩ := ob_s hF
      refine m_callS (As := [.int x7]) (rest := [.int x6]) X hp (w_X0_fold e24) q1327 q1328 q132 q1329 1 rfl ds_X0_fold ⟨Nat.le_of_ble_eq_true rfl, Nat.le_of_ble_eq_true rfl⟩ hl.1 rfl (Nat.le_of_ble_eq_true rfl) dX0_folded_73 ⟨Nat.le_refl 0, Nat.le_refl 0⟩ (fun H locs hp => ?_)
      refine lv_iconst (v := 1) hx hb dX0_folded_76 (by decide) ?_
      refine lv_icmp_ne (tgt := 84) hx hb dX0_folded_77 (by decide) (fun c26 => ?_) (fun c26 => ?_)
      · have hF := if_n c26 hF
        refine lv_iconst (v := 3) hx hb dX0_folded_84 (by decide) ?_
        exact b_X0_folded_85 X _ ih _ _ _ _ _ _ _ _ _ _ hp (lv_sub hl [0, 1, 2, 3, 5] rfl) hF
      · have hF := if_p c26 hF
        refine lv_iconst (v := 1) hx hb dX0_folded_80 (by decide) ?_
        refine lv_goto (tgt := 85) hx hb dX0_folded_81 (by decide) ?_
        exact b_X0_folded_85 X _ ih _ _ _ _ _ _ _ _ _ _ hp (lv_sub hl [0, 1, 2, 3, 5] rfl) hF
def fb_X0_folded_40 (x1 : Int32) (x2 : Int32) (x3 : Int32) : Option Int32 := (if x3 = 0 then ob (f_X0_fold x2) fun v21 => some v21 else nm ((0 : Int32)) fun v12 => nm ((1 : Int32)) fun v14 => nm ((0 : Int32)) fun v16 => nm ((1 : Int32)) fun v18 => (fb_X0_folded_61 FU x1 x3 v12 v14 v16 v18))
theorem b_X0_folded_40 {r : Int32} (X : mCx D n0 P p m c cX0_folded 8 s args yX0_folded.cls meth (some .int)) : ∀ (x1 : Int32) (x2 : Int32) (x3 : Int32) (H : Heap) (locs : List Loc) (ls : Array Slot), mHp D n0 S M n s H locs → lv_has ls 8 [(1, .int x1), (2, .int x2), (3, .int x3)] → fb_X0_folded_40 x1 x2 x3 = some r → W p l e Rm_X0_folded s m args below meth c H locs 0 0 (MQ below (mQ D n0 (some (.int r)) S M n) args s 0 0 (mA n0)) (F0 m 40 ls []) := by
  have hx := X.1.1
  have hb := X.1.2.1
  have hown := X.1.2.2.2.1
  have hts := X.1.2.2.2.2
  intro x1 x2 x3 H locs ls hp hl hF
  unfold fb_X0_folded_40 at hF
  refine lv_iload_n hx hb dX0_folded_40 rfl (lv_at hl 2 rfl) ?_
  refine lv_if_ne (tgt := 49) hx hb dX0_folded_41 (by decide) (fun c11 => ?_) (fun c11 => ?_)
  · have hF := if_n c11 hF
    refine lv_iconst (v := 0) hx hb dX0_folded_49 (by decide) ?_
    refine lv_topi (fun v12 ev13 => ?_)
    have hF := nm_s hF ev13
    refine lv_istore (lv' := [(4, .int v12), (1, .int x1), (2, .int x2), (3, .int x3)]) hx hb dX0_folded_50 hl (by decide) rfl (fun ls hl => ?_)
    refine lv_iconst (v := 1) hx hb dX0_folded_52 (by decide) ?_
    refine lv_topi (fun v14 ev15 => ?_)
    have hF := nm_s hF ev15
    refine lv_istore (lv' := [(5, .int v14), (4, .int v12), (1, .int x1), (2, .int x2), (3, .int x3)]) hx hb dX0_folded_53 hl (by decide) rfl (fun ls hl => ?_)
    refine lv_iconst (v := 0) hx hb dX0_folded_55 (by decide) ?_
    refine lv_topi (fun v16 ev17 => ?_)
    have hF := nm_s hF ev17
    refine lv_istore (lv' := [(6, .int v16), (5, .int v14), (4, .int v12), (1, .int x1), (2, .int x2), (3, .int x3)]) hx hb dX0_folded_56 hl (by decide) rfl (fun ls hl => ?_)
    refine lv_iconst (v := 1) hx hb dX0_folded_58 (by decide) ?_
    refine lv_topi (fun v18 ev19 => ?_)
    have hF := nm_s hF ev19
    refine lv_istore (lv' := [(7, .int v18), (6, .int v16), (5, .int v14), (4, .int v12), (1, .int x1), (2, .int x2), (3, .int x3)]) hx hb dX0_folded_59 hl (by decide) rfl (fun ls hl => ?_)
    exact b_X0_folded_61 X _ _ _ _ _ _ _ _ _ _ hp (lv_sub hl [4, 6, 3, 2, 1, 0] rfl) hF
  · have hF := if_p c11 hF
    refine lv_iload_n hx hb dX0_folded_44 rfl (lv_at hl 1 rfl) ?_
    obtain ⟨v21, e20, hF⟩ := ob_s hF
    refine m_callS (As := [.int x2]) (rest := []) X hp (w_X0_fold e20) q1327 q1328 q132 q1329 1 rfl ds_X0_fold ⟨Nat.le_of_ble_eq_true rfl, Nat.le_of_ble_eq_true rfl⟩ hl.1 rfl (Nat.le_of_ble_eq_true rfl) dX0_folded_45 ⟨Nat.le_refl 0, Nat.le_refl 0⟩ (fun H locs hp => ?_)
    cases hF
    exact m_iret X hp dX0_folded_48
def f_X0_folded (x0 : Nat) (x1 : Int32) (x2 : Int32) (x3 : Int32) : Option Int32 := ob (f_X0_isIn x1 (1 : Int32) (15 : Int32)) fun v2 => (if v2 = 0 then some (-1000 : Int32) else ob (f_X0_isIn x3 (0 : Int32) (2 : Int32)) fun v5 => (if v5 = 0 then some (-1000 : Int32) else (if x3 = 0 then ob (f_X0_isIn x2 (1 : Int32) (((1 : Int32) <<< (x1 &&& 31)) - (1 : Int32))) fun v9 => (if v9 = 0 then some (-1000 : Int32) else (fb_X0_folded_40 x1 x2 x3)) else (fb_X0_folded_40 x1 x2 x3))))
theorem w_X0_folded {x0 : Nat} {x1 : Int32} {x2 : Int32} {x3 : Int32} {r : Int32} (hF : f_X0_folded x0 x1 x2 x3 = some r) : mCt l D n0 P yX0_folded cX0_folded 8 (some .int) 2 40 0 0 [.ref x0, .int x1, .int x2, .int x3] S M n (some (.int r)) S M n := by
  refine m_ofW (by decide) (Nat.le_of_ble_eq_true rfl) (fun p e s m below meth c X hnm hp ls hl => ?_)
  have hx := X.1.1
  have hb := X.1.2.1
  have hown := X.1.2.2.2.1
  have hts := X.1.2.2.2.2
  have hl : lv_has ls 8 [(0, .ref x0), (1, .int x1), (2, .int x2), (3, .int x3)] := hl
  unfold f_X0_folded at hF
  refine lv_iload_n hx hb dX0_folded_0 rfl (lv_at hl 1 rfl) ?_
  refine lv_iconst (v := 1) hx hb dX0_folded_1 (by decide) ?_
  refine lv_bipush (v := 15) hx hb dX0_folded_2 (by decide) ?_
  obtain ⟨v2, e1, hF⟩ := ob_s hF
  refine m_callS (As := [.int x1, .int (1 : Int32), .int (15 : Int32)]) (rest := []) X hp (w_X0_isIn e1) q565 q566 q132 q567 3 rfl ds_X0_isIn ⟨Nat.le_of_ble_eq_true rfl, Nat.le_of_ble_eq_true rfl⟩ hl.1 rfl (Nat.le_of_ble_eq_true rfl) dX0_folded_4 ⟨Nat.le_refl 0, Nat.le_refl 0⟩ (fun H locs hp => ?_)
  refine lv_if_eq (tgt := 36) hx hb dX0_folded_7 (by decide) (fun c3 => ?_) (fun c3 => ?_)
  · have hF := if_p c3 hF
    refine lv_sipush (v := -1000) hx hb dX0_folded_36 (by decide) ?_
    cases hF
    exact m_iret X hp dX0_folded_39
  · have hF := if_n c3 hF
    refine lv_iload_n hx hb dX0_folded_10 rfl (lv_at hl 3 rfl) ?_
    refine lv_iconst (v := 0) hx hb dX0_folded_11 (by decide) ?_
    refine lv_iconst (v := 2) hx hb dX0_folded_12 (by decide) ?_
    obtain ⟨v5, e4, hF⟩ := ob_s hF
    refine m_callS (As := [.int x3, .int (0 : Int32), .int (2 : Int32)]) (rest := []) X hp (w_X0_isIn e4) q565 q566 q132 q567 3 rfl ds_X0_isIn ⟨Nat.le_of_ble_eq_true rfl, Nat.le_of_ble_eq_true rfl⟩ hl.1 rfl (Nat.le_of_ble_eq_true rfl) dX0_folded_13 ⟨Nat.le_refl 0, Nat.le_refl 0⟩ (fun H locs hp => ?_)
    refine lv_if_eq (tgt := 36) hx hb dX0_folded_16 (by decide) (fun c6 => ?_) (fun c6 => ?_)
    · have hF := if_p c6 hF
      refine lv_sipush (v := -1000) hx hb dX0_folded_36 (by decide) ?_
      cases hF
      exact m_iret X hp dX0_folded_39
    · have hF := if_n c6 hF
      refine lv_iload_n hx hb dX0_folded_19 rfl (lv_at hl 3 rfl) ?_
      refine lv_if_ne (tgt := 40) hx hb dX0_folded_20 (by decide) (fun c7 => ?_) (fun c7 => ?_)
      · have hF := if_n c7 hF
        exact b_X0_folded_40 X _ _ _ _ _ _ hp (lv_sub hl [1, 2, 3] rfl) hF
      · have hF := if_p c7 hF
        refine lv_iload_n hx hb dX0_folded_23 rfl (lv_at hl 2 rfl) ?_
        refine lv_iconst (v := 1) hx hb dX0_folded_24 (by decide) ?_
        refine lv_iconst (v := 1) hx hb dX0_folded_25 (by decide) ?_
        refine lv_iload_n hx hb dX0_folded_26 rfl (lv_at hl 1 rfl) ?_
        refine lv_ishl hx hb dX0_folded_27 ?_
        refine lv_iconst (v := 1) hx hb dX0_folded_28 (by decide) ?_
        refine lv_isub hx hb dX0_folded_29 ?_
        obtain ⟨v9, e8, hF⟩ := ob_s hF
        refine m_callS (As := [.int x2, .int (1 : Int32), .int (((1 : Int32) <<< (x1 &&& 31)) - (1 : Int32))]) (rest := []) X hp (w_X0_isIn e8) q565 q566 q132 q567 3 rfl ds_X0_isIn ⟨Nat.le_of_ble_eq_true rfl, Nat.le_of_ble_eq_true rfl⟩ hl.1 rfl (Nat.le_of_ble_eq_true rfl) dX0_folded_30 ⟨Nat.le_refl 0, Nat.le_refl 0⟩ (fun H locs hp => ?_)
        refine lv_if_ne (tgt := 40) hx hb dX0_folded_33 (by decide) (fun c10 => ?_) (fun c10 => ?_)
        · have hF := if_n c10 hF
          exact b_X0_folded_40 X _ _ _ _ _ _ hp (lv_sub hl [1, 2, 3] rfl) hF
        · have hF := if_p c10 hF
          refine lv_sipush (v := -1000) hx hb dX0_folded_36 (by decide) ?_
          cases hF
          exact m_iret X hp dX0_folded_39
end
section
variable {l : Launch} {D : va_G} {n0 : Nat} {P : mP} {S : mSh} {M : mMm} {n : Nat} {p : Program} {e : Env} {s : State} {m : MethodId} {args : Array Value} {below : List Frame} {meth : Method} {c : Code}
abbrev Rm_X0_forgets : Room := { frames := 0, cells := 0, slots := 0, locals := 0 }
def f_X0_forgets (S : mSh) (M : mMm) (x0 : Nat) : Option (Int32 × mMm) := ob (wF S M x0 1 8 (.int (0 : Int32))) fun M1 => some ((1 : Int32), M1)
theorem w_X0_forgets {x0 : Nat} {r : Int32} {M' : mMm} (hF : f_X0_forgets S M x0 = some (r, M')) : mCt l D n0 P yX0_forgets cX0_forgets 1 (some .boolean) 0 0 0 0 [.ref x0] S M n (some (.int r)) S M' n := by
  refine m_ofW (by decide) (Nat.le_of_ble_eq_true rfl) (fun p e s m below meth c X hnm hp ls hl => ?_)
  have hx := X.1.1
  have hb := X.1.2.1
  have hown := X.1.2.2.2.1
  have hts := X.1.2.2.2.2
  have hl : lv_has ls 1 [(0, .ref x0)] := hl
  unfold f_X0_forgets at hF
  refine lv_aload_n hx hb dX0_forgets_0 rfl (lv_at hl 0 rfl) ?_
  refine lv_iconst (v := 0) hx hb dX0_forgets_1 (by decide) ?_
  obtain ⟨M1, e2, hF⟩ := ob_s hF
  refine m_putW X hp e2 kX0 (Nat.le_of_ble_eq_true rfl) q468 rfl rfl rfl dX0_forgets_2 (fun H locs hp => ?_)
  refine lv_iconst (v := 1) hx hb dX0_forgets_5 (by decide) ?_
  cases hF
  exact m_zret X hp rfl dX0_forgets_6
end
section
variable {l : Launch} {D : va_G} {n0 : Nat} {P : mP} {S : mSh} {M : mMm} {n : Nat} {p : Program} {e : Env} {s : State} {m : MethodId} {args : Array Value} {below : List Frame} {meth : Method} {c : Code}
abbrev Rm_X0_laysNims : Room := { frames := 1, cells := 0, slots := 0, locals := 24 }
def fb_X0_laysNims_60 (S : mSh) (k20 : mMm → Nat → Int32 → Int32 → Int32 → Int32 → Int32 → Option mMm) (M : mMm) (x0 : Nat) (x1 : Int32) (x2 : Int32) (x3 : Int32) (x4 : Int32) (x5 : Int32) : Option mMm := nm (x5 + (1 : Int32)) fun v33 => (k20 M x0 x1 x2 x3 x4 v33)
theorem b_X0_laysNims_60 {M' : mMm} (X : mCx D n0 P p m c cX0_laysNims 6 s args yX0_laysNims.cls meth none) (k20 : mMm → Nat → Int32 → Int32 → Int32 → Int32 → Int32 → Option mMm) (hk20 : ∀ (M : mMm) (x0 : Nat) (x1 : Int32) (x2 : Int32) (x3 : Int32) (x4 : Int32) (x5 : Int32) (H : Heap) (locs : List Loc) (ls : Array Slot), mHp D n0 S M n s H locs → lv_has ls 6 [(0, .ref x0), (1, .int x1), (2, .int x2), (3, .int x3), (4, .int x4), (5, .int x5)] → k20 M x0 x1 x2 x3 x4 x5 = some M' → W p l e Rm_X0_laysNims s m args below meth c H locs 0 0 (MQ below (mQ D n0 none S M' n) args s 0 0 (mA n0)) (F0 m 20 ls [])) : ∀ (M : mMm) (x0 : Nat) (x1 : Int32) (x2 : Int32) (x3 : Int32) (x4 : Int32) (x5 : Int32) (H : Heap) (locs : List Loc) (ls : Array Slot), mHp D n0 S M n s H locs → lv_has ls 6 [(0, .ref x0), (1, .int x1), (2, .int x2), (3, .int x3), (4, .int x4), (5, .int x5)] → fb_X0_laysNims_60 S k20 M x0 x1 x2 x3 x4 x5 = some M' → W p l e Rm_X0_laysNims s m args below meth c H locs 0 0 (MQ below (mQ D n0 none S M' n) args s 0 0 (mA n0)) (F0 m 60 ls []) := by
  have hx := X.1.1
  have hb := X.1.2.1
  have hown := X.1.2.2.2.1
  have hts := X.1.2.2.2.2
  intro M x0 x1 x2 x3 x4 x5 H locs ls hp hl hF
  unfold fb_X0_laysNims_60 at hF
  obtain ⟨v33, ev34⟩ : ∃ y : Int32, y = x5 + (1 : Int32) := ⟨_, rfl⟩
  have hF := nm_s hF ev34
  refine lv_iinc (v := v33) (lv' := [(5, .int v33), (0, .ref x0), (1, .int x1), (2, .int x2), (3, .int x3), (4, .int x4)]) hx hb dX0_laysNims_60 hl (k := 5) rfl (by rw [ev34]; rfl) (by decide) rfl (fun ls hl => ?_)
  refine lv_goto (tgt := 20) hx hb dX0_laysNims_63 (by decide) ?_
  exact hk20 _ _ _ _ _ _ _ _ _ _ hp (lv_sub hl [1, 2, 3, 4, 5, 0] rfl) hF
def fb_X0_laysNims_20 (S : mSh) (k9 : mMm → Nat → Int32 → Int32 → Int32 → Option mMm) : Nat → mMm → Nat → Int32 → Int32 → Int32 → Int32 → Int32 → Option mMm
  | 0, _, _, _, _, _, _, _ => none
  | t + 1, M, x0, x1, x2, x3, x4, x5 => (if (4 : Int32) ≤ x5 then ob (rR S M x0 1 29) fun v14 => ob (f_J8_numberOfTrailingZeros (x4 ^^^ (-1 : Int32))) fun v17 => ob (wA S M v14 100 (((61 : Int32) * (x2 - x3)) + x3) (.int v17)) fun M18 => nm (x3 + (1 : Int32)) fun v20 => (k9 M18 x0 x1 x2 v20) else ob (f_X0_bent x3 (x2 - x3) x5) fun v23 => (if v23 = (-1 : Int32) then (fb_X0_laysNims_60 S (fb_X0_laysNims_20 S k9 t) M x0 x1 x2 x3 x4 x5) else ob (rR S M x0 1 29) fun v25 => ob (f_X0_bent x3 (x2 - x3) x5) fun v28 => ob (aI S M v25 100 v28) fun v29 => nm ((x4 ||| ((1 : Int32) <<< (v29 &&& 31)))) fun v31 => (fb_X0_laysNims_60 S (fb_X0_laysNims_20 S k9 t) M x0 x1 x2 x3 v31 x5)))
theorem b_X0_laysNims_20 {M' : mMm} (X : mCx D n0 P p m c cX0_laysNims 6 s args yX0_laysNims.cls meth none) (k9 : mMm → Nat → Int32 → Int32 → Int32 → Option mMm) (hk9 : ∀ (M : mMm) (x0 : Nat) (x1 : Int32) (x2 : Int32) (x3 : Int32) (H : Heap) (locs : List Loc) (ls : Array Slot), mHp D n0 S M n s H locs → lv_has ls 6 [(0, .ref x0), (1, .int x1), (2, .int x2), (3, .int x3)] → k9 M x0 x1 x2 x3 = some M' → W p l e Rm_X0_laysNims s m args below meth c H locs 0 0 (MQ below (mQ D n0 none S M' n) args s 0 0 (mA n0)) (F0 m 9 ls [])) : ∀ t : Nat, ∀ (M : mMm) (x0 : Nat) (x1 : Int32) (x2 : Int32) (x3 : Int32) (x4 : Int32) (x5 : Int32) (H : Heap) (locs : List Loc) (ls : Array Slot), mHp D n0 S M n s H locs → lv_has ls 6 [(0, .ref x0), (1, .int x1), (2, .int x2), (3, .int x3), (4, .int x4), (5, .int x5)] → fb_X0_laysNims_20 S k9 t M x0 x1 x2 x3 x4 x5 = some M' → W p l e Rm_X0_laysNims s m args below meth c H locs 0 0 (MQ below (mQ D n0 none S M' n) args s 0 0 (mA n0)) (F0 m 20 ls []) := by
  have hx := X.1.1
  have hb := X.1.2.1
  have hown := X.1.2.2.2.1
  have hts := X.1.2.2.2.2
  intro t
  induction t with
  | zero =>
    intro M x0 x1 x2 x3 x4 x5 H locs ls hp hl hF
    have hF : none = some M' := hF
    cases hF
  | succ t ih =>
    intro M x0 x1 x2 x3 x4 x5 H locs ls hp hl hF
    rw [fb_X0_laysNims_20] at hF
    refine lv_iload hx hb dX0_laysNims_20 (lv_at hl 5 rfl) ?_
    refine lv_iconst (v := 4) hx hb dX0_laysNims_22 (by decide) ?_
    refine lv_icmp_ge (tgt := 66) hx hb dX0_laysNims_23 (by decide) (fun c13 => ?_) (fun c13 => ?_)
    · have hF := if_p c13 hF
      refine lv_aload_n hx hb dX0_laysNims_66 rfl (lv_at hl 0 rfl) ?_
      obtain ⟨v14, e15, hF⟩ := ob_s hF
      refine m_getR X hp e15 kX0 (Nat.le_of_ble_eq_true rfl) q489 dX0_laysNims_67 ?_
      refine lv_bipush (v := 61) hx hb dX0_laysNims_70 (by decide) ?_
      refine lv_iload_n hx hb dX0_laysNims_72 rfl (lv_at hl 2 rfl) ?_
      refine lv_iload_n hx hb dX0_laysNims_73 rfl (lv_at hl 3 rfl) ?_
      refine lv_isub hx hb dX0_laysNims_74 ?_
      refine lv_imul hx hb dX0_laysNims_75 ?_
      refine lv_iload_n hx hb dX0_laysNims_76 rfl (lv_at hl 3 rfl) ?_
      refine lv_iadd hx hb dX0_laysNims_77 ?_
      refine lv_iload hx hb dX0_laysNims_78 (lv_at hl 4 rfl) ?_
      refine lv_iconst (v := -1) hx hb dX0_laysNims_80 (by decide) ?_
      refine lv_ixor hx hb dX0_laysNims_81 ?_
      obtain ⟨v17, e16, hF⟩ := ob_s hF
      refine m_callS (As := [.int (x4 ^^^ (-1 : Int32))]) (rest := [.int (((61 : Int32) * (x2 - x3)) + x3), .ref v14]) X hp (w_J8_numberOfTrailingZeros e16) q1432 q1433 q147 q1434 1 rfl ds_J8_numberOfTrailingZeros ⟨Nat.le_of_ble_eq_true rfl, Nat.le_of_ble_eq_true rfl⟩ hl.1 rfl (Nat.le_of_ble_eq_true rfl) dX0_laysNims_82 ⟨Nat.le_refl 0, Nat.le_refl 0⟩ (fun H locs hp => ?_)
      obtain ⟨M18, e19, hF⟩ := ob_s hF
      refine m_iaW X hp e19 dX0_laysNims_85 (fun H locs hp => ?_)
      obtain ⟨v20, ev21⟩ : ∃ y : Int32, y = x3 + (1 : Int32) := ⟨_, rfl⟩
      have hF := nm_s hF ev21
      refine lv_iinc (v := v20) (lv' := [(3, .int v20), (0, .ref x0), (1, .int x1), (2, .int x2), (4, .int x4), (5, .int x5)]) hx hb dX0_laysNims_86 hl (k := 3) rfl (by rw [ev21]; rfl) (by decide) rfl (fun ls hl => ?_)
      refine lv_goto (tgt := 9) hx hb dX0_laysNims_89 (by decide) ?_
      exact hk9 _ _ _ _ _ _ _ _ hp (lv_sub hl [1, 2, 3, 0] rfl) hF
    · have hF := if_n c13 hF
      refine lv_iload_n hx hb dX0_laysNims_26 rfl (lv_at hl 3 rfl) ?_
      refine lv_iload_n hx hb dX0_laysNims_27 rfl (lv_at hl 2 rfl) ?_
      refine lv_iload_n hx hb dX0_laysNims_28 rfl (lv_at hl 3 rfl) ?_
      refine lv_isub hx hb dX0_laysNims_29 ?_
      refine lv_iload hx hb dX0_laysNims_30 (lv_at hl 5 rfl) ?_
      obtain ⟨v23, e22, hF⟩ := ob_s hF
      refine m_callS (As := [.int x3, .int (x2 - x3), .int x5]) (rest := []) X hp (w_X0_bent e22) q1429 q1430 q132 q1431 3 rfl ds_X0_bent ⟨Nat.le_of_ble_eq_true rfl, Nat.le_of_ble_eq_true rfl⟩ hl.1 rfl (Nat.le_of_ble_eq_true rfl) dX0_laysNims_32 ⟨Nat.le_refl 0, Nat.le_refl 0⟩ (fun H locs hp => ?_)
      refine lv_iconst (v := -1) hx hb dX0_laysNims_35 (by decide) ?_
      refine lv_icmp_eq (tgt := 60) hx hb dX0_laysNims_36 (by decide) (fun c24 => ?_) (fun c24 => ?_)
      · have hF := if_p c24 hF
        exact b_X0_laysNims_60 X _ ih _ _ _ _ _ _ _ _ _ _ hp (lv_sub hl [0, 1, 2, 3, 4, 5] rfl) hF
      · have hF := if_n c24 hF
        refine lv_iload hx hb dX0_laysNims_39 (lv_at hl 4 rfl) ?_
        refine lv_iconst (v := 1) hx hb dX0_laysNims_41 (by decide) ?_
        refine lv_aload_n hx hb dX0_laysNims_42 rfl (lv_at hl 0 rfl) ?_
        obtain ⟨v25, e26, hF⟩ := ob_s hF
        refine m_getR X hp e26 kX0 (Nat.le_of_ble_eq_true rfl) q489 dX0_laysNims_43 ?_
        refine lv_iload_n hx hb dX0_laysNims_46 rfl (lv_at hl 3 rfl) ?_
        refine lv_iload_n hx hb dX0_laysNims_47 rfl (lv_at hl 2 rfl) ?_
        refine lv_iload_n hx hb dX0_laysNims_48 rfl (lv_at hl 3 rfl) ?_
        refine lv_isub hx hb dX0_laysNims_49 ?_
        refine lv_iload hx hb dX0_laysNims_50 (lv_at hl 5 rfl) ?_
        obtain ⟨v28, e27, hF⟩ := ob_s hF
        refine m_callS (As := [.int x3, .int (x2 - x3), .int x5]) (rest := [.ref v25, .int (1 : Int32), .int x4]) X hp (w_X0_bent e27) q1429 q1430 q132 q1431 3 rfl ds_X0_bent ⟨Nat.le_of_ble_eq_true rfl, Nat.le_of_ble_eq_true rfl⟩ hl.1 rfl (Nat.le_of_ble_eq_true rfl) dX0_laysNims_52 ⟨Nat.le_refl 0, Nat.le_refl 0⟩ (fun H locs hp => ?_)
        obtain ⟨v29, e30, hF⟩ := ob_s hF
        refine m_iaI X hp e30 dX0_laysNims_55 ?_
        refine lv_ishl hx hb dX0_laysNims_56 ?_
        refine lv_ior hx hb dX0_laysNims_57 ?_
        refine lv_topi (fun v31 ev32 => ?_)
        have hF := nm_s hF ev32
        refine lv_istore (lv' := [(4, .int v31), (0, .ref x0), (1, .int x1), (2, .int x2), (3, .int x3), (5, .int x5)]) hx hb dX0_laysNims_58 hl (by decide) rfl (fun ls hl => ?_)
        exact b_X0_laysNims_60 X _ ih _ _ _ _ _ _ _ _ _ _ hp (lv_sub hl [1, 2, 3, 4, 0, 5] rfl) hF
def fb_X0_laysNims_9 (S : mSh) (k2 : mMm → Nat → Int32 → Int32 → Option mMm) : Nat → mMm → Nat → Int32 → Int32 → Int32 → Option mMm
  | 0, _, _, _, _, _ => none
  | t + 1, M, x0, x1, x2, x3 => (if x2 < x3 then nm (x2 + (1 : Int32)) fun v7 => (k2 M x0 x1 v7) else nm ((0 : Int32)) fun v9 => nm ((0 : Int32)) fun v11 => (fb_X0_laysNims_20 S (fb_X0_laysNims_9 S k2 t) FU M x0 x1 x2 x3 v9 v11))
theorem b_X0_laysNims_9 {M' : mMm} (X : mCx D n0 P p m c cX0_laysNims 6 s args yX0_laysNims.cls meth none) (k2 : mMm → Nat → Int32 → Int32 → Option mMm) (hk2 : ∀ (M : mMm) (x0 : Nat) (x1 : Int32) (x2 : Int32) (H : Heap) (locs : List Loc) (ls : Array Slot), mHp D n0 S M n s H locs → lv_has ls 6 [(0, .ref x0), (1, .int x1), (2, .int x2)] → k2 M x0 x1 x2 = some M' → W p l e Rm_X0_laysNims s m args below meth c H locs 0 0 (MQ below (mQ D n0 none S M' n) args s 0 0 (mA n0)) (F0 m 2 ls [])) : ∀ t : Nat, ∀ (M : mMm) (x0 : Nat) (x1 : Int32) (x2 : Int32) (x3 : Int32) (H : Heap) (locs : List Loc) (ls : Array Slot), mHp D n0 S M n s H locs → lv_has ls 6 [(0, .ref x0), (1, .int x1), (2, .int x2), (3, .int x3)] → fb_X0_laysNims_9 S k2 t M x0 x1 x2 x3 = some M' → W p l e Rm_X0_laysNims s m args below meth c H locs 0 0 (MQ below (mQ D n0 none S M' n) args s 0 0 (mA n0)) (F0 m 9 ls []) := by
  have hx := X.1.1
  have hb := X.1.2.1
  have hown := X.1.2.2.2.1
  have hts := X.1.2.2.2.2
  intro t
  induction t with
  | zero =>
    intro M x0 x1 x2 x3 H locs ls hp hl hF
    have hF : none = some M' := hF
    cases hF
  | succ t ih =>
    intro M x0 x1 x2 x3 H locs ls hp hl hF
    rw [fb_X0_laysNims_9] at hF
    refine lv_iload_n hx hb dX0_laysNims_9 rfl (lv_at hl 3 rfl) ?_
    refine lv_iload_n hx hb dX0_laysNims_10 rfl (lv_at hl 2 rfl) ?_
    refine lv_icmp_gt (tgt := 92) hx hb dX0_laysNims_11 (by decide) (fun c6 => ?_) (fun c6 => ?_)
    · have hF := if_p c6 hF
      obtain ⟨v7, ev8⟩ : ∃ y : Int32, y = x2 + (1 : Int32) := ⟨_, rfl⟩
      have hF := nm_s hF ev8
      refine lv_iinc (v := v7) (lv' := [(2, .int v7), (0, .ref x0), (1, .int x1), (3, .int x3)]) hx hb dX0_laysNims_92 hl (k := 2) rfl (by rw [ev8]; rfl) (by decide) rfl (fun ls hl => ?_)
      refine lv_goto (tgt := 2) hx hb dX0_laysNims_95 (by decide) ?_
      exact hk2 _ _ _ _ _ _ _ hp (lv_sub hl [1, 2, 0] rfl) hF
    · have hF := if_n c6 hF
      refine lv_iconst (v := 0) hx hb dX0_laysNims_14 (by decide) ?_
      refine lv_topi (fun v9 ev10 => ?_)
      have hF := nm_s hF ev10
      refine lv_istore (lv' := [(4, .int v9), (0, .ref x0), (1, .int x1), (2, .int x2), (3, .int x3)]) hx hb dX0_laysNims_15 hl (by decide) rfl (fun ls hl => ?_)
      refine lv_iconst (v := 0) hx hb dX0_laysNims_17 (by decide) ?_
      refine lv_topi (fun v11 ev12 => ?_)
      have hF := nm_s hF ev12
      refine lv_istore (lv' := [(5, .int v11), (4, .int v9), (0, .ref x0), (1, .int x1), (2, .int x2), (3, .int x3)]) hx hb dX0_laysNims_18 hl (by decide) rfl (fun ls hl => ?_)
      exact b_X0_laysNims_20 X _ ih _ _ _ _ _ _ _ _ _ _ _ hp (lv_sub hl [2, 3, 4, 5, 1, 0] rfl) hF
def fb_X0_laysNims_2 (S : mSh) : Nat → mMm → Nat → Int32 → Int32 → Option mMm
  | 0, _, _, _, _ => none
  | t + 1, M, x0, x1, x2 => (if x1 < x2 then some M else nm ((0 : Int32)) fun v4 => (fb_X0_laysNims_9 S (fb_X0_laysNims_2 S t) FU M x0 x1 x2 v4))
theorem b_X0_laysNims_2 {M' : mMm} (X : mCx D n0 P p m c cX0_laysNims 6 s args yX0_laysNims.cls meth none) : ∀ t : Nat, ∀ (M : mMm) (x0 : Nat) (x1 : Int32) (x2 : Int32) (H : Heap) (locs : List Loc) (ls : Array Slot), mHp D n0 S M n s H locs → lv_has ls 6 [(0, .ref x0), (1, .int x1), (2, .int x2)] → fb_X0_laysNims_2 S t M x0 x1 x2 = some M' → W p l e Rm_X0_laysNims s m args below meth c H locs 0 0 (MQ below (mQ D n0 none S M' n) args s 0 0 (mA n0)) (F0 m 2 ls []) := by
  have hx := X.1.1
  have hb := X.1.2.1
  have hown := X.1.2.2.2.1
  have hts := X.1.2.2.2.2
  intro t
  induction t with
  | zero =>
    intro M x0 x1 x2 H locs ls hp hl hF
    have hF : none = some M' := hF
    cases hF
  | succ t ih =>
    intro M x0 x1 x2 H locs ls hp hl hF
    rw [fb_X0_laysNims_2] at hF
    refine lv_iload_n hx hb dX0_laysNims_2 rfl (lv_at hl 2 rfl) ?_
    refine lv_iload_n hx hb dX0_laysNims_3 rfl (lv_at hl 1 rfl) ?_
    refine lv_icmp_gt (tgt := 98) hx hb dX0_laysNims_4 (by decide) (fun c3 => ?_) (fun c3 => ?_)
    · have hF := if_p c3 hF
      cases hF
      exact m_vret X hp dX0_laysNims_98
    · have hF := if_n c3 hF
      refine lv_iconst (v := 0) hx hb dX0_laysNims_7 (by decide) ?_
      refine lv_topi (fun v4 ev5 => ?_)
      have hF := nm_s hF ev5
      refine lv_istore_n (lv' := [(3, .int v4), (0, .ref x0), (1, .int x1), (2, .int x2)]) hx hb dX0_laysNims_8 rfl hl (by decide) rfl (fun ls hl => ?_)
      exact b_X0_laysNims_9 X _ ih _ _ _ _ _ _ _ _ _ hp (lv_sub hl [1, 2, 3, 0] rfl) hF
def f_X0_laysNims (S : mSh) (M : mMm) (x0 : Nat) (x1 : Int32) : Option mMm := nm ((0 : Int32)) fun v1 => (fb_X0_laysNims_2 S FU M x0 x1 v1)
theorem w_X0_laysNims {x0 : Nat} {x1 : Int32} {M' : mMm} (hF : f_X0_laysNims S M x0 x1 = some M') : mCt l D n0 P yX0_laysNims cX0_laysNims 6 none 1 24 0 0 [.ref x0, .int x1] S M n none S M' n := by
  refine m_ofW (by decide) (Nat.le_of_ble_eq_true rfl) (fun p e s m below meth c X hnm hp ls hl => ?_)
  have hx := X.1.1
  have hb := X.1.2.1
  have hown := X.1.2.2.2.1
  have hts := X.1.2.2.2.2
  have hl : lv_has ls 6 [(0, .ref x0), (1, .int x1)] := hl
  unfold f_X0_laysNims at hF
  refine lv_iconst (v := 0) hx hb dX0_laysNims_0 (by decide) ?_
  refine lv_topi (fun v1 ev2 => ?_)
  have hF := nm_s hF ev2
  refine lv_istore_n (lv' := [(2, .int v1), (0, .ref x0), (1, .int x1)]) hx hb dX0_laysNims_1 rfl hl (by decide) rfl (fun ls hl => ?_)
  exact b_X0_laysNims_2 X _ _ _ _ _ _ _ _ hp (lv_sub hl [1, 2, 0] rfl) hF
end
section
variable {l : Launch} {D : va_G} {n0 : Nat} {P : mP} {S : mSh} {M : mMm} {n : Nat} {p : Program} {e : Env} {s : State} {m : MethodId} {args : Array Value} {below : List Frame} {meth : Method} {c : Code}
abbrev Rm_X0_game : Room := { frames := 2, cells := 0, slots := 0, locals := 49 }
def fb_X0_game_108 (S : mSh) (k60 : mMm → Nat → Int32 → Int32 → Int32 → Int32 → Option (Int32 × mMm)) (M : mMm) (x0 : Nat) (x1 : Int32) (x2 : Int32) (x4 : Int32) (x5 : Int32) : Option (Int32 × mMm) := nm (x5 + (1 : Int32)) fun v34 => (k60 M x0 x1 x2 x4 v34)
theorem b_X0_game_108 {r : Int32} {M' : mMm} (X : mCx D n0 P p m c cX0_game 7 s args yX0_game.cls meth (some .int)) (k60 : mMm → Nat → Int32 → Int32 → Int32 → Int32 → Option (Int32 × mMm)) (hk60 : ∀ (M : mMm) (x0 : Nat) (x1 : Int32) (x2 : Int32) (x4 : Int32) (x5 : Int32) (H : Heap) (locs : List Loc) (ls : Array Slot), mHp D n0 S M n s H locs → lv_has ls 7 [(0, .ref x0), (1, .int x1), (2, .int x2), (4, .int x4), (5, .int x5)] → k60 M x0 x1 x2 x4 x5 = some (r, M') → W p l e Rm_X0_game s m args below meth c H locs 0 0 (MQ below (mQ D n0 (some (.int r)) S M' n) args s 0 0 (mA n0)) (F0 m 60 ls [])) : ∀ (M : mMm) (x0 : Nat) (x1 : Int32) (x2 : Int32) (x4 : Int32) (x5 : Int32) (H : Heap) (locs : List Loc) (ls : Array Slot), mHp D n0 S M n s H locs → lv_has ls 7 [(0, .ref x0), (1, .int x1), (2, .int x2), (4, .int x4), (5, .int x5)] → fb_X0_game_108 S k60 M x0 x1 x2 x4 x5 = some (r, M') → W p l e Rm_X0_game s m args below meth c H locs 0 0 (MQ below (mQ D n0 (some (.int r)) S M' n) args s 0 0 (mA n0)) (F0 m 108 ls []) := by
  have hx := X.1.1
  have hb := X.1.2.1
  have hown := X.1.2.2.2.1
  have hts := X.1.2.2.2.2
  intro M x0 x1 x2 x4 x5 H locs ls hp hl hF
  unfold fb_X0_game_108 at hF
  obtain ⟨v34, ev35⟩ : ∃ y : Int32, y = x5 + (1 : Int32) := ⟨_, rfl⟩
  have hF := nm_s hF ev35
  refine lv_iinc (v := v34) (lv' := [(5, .int v34), (0, .ref x0), (1, .int x1), (2, .int x2), (4, .int x4)]) hx hb dX0_game_108 hl (k := 4) rfl (by rw [ev35]; rfl) (by decide) rfl (fun ls hl => ?_)
  refine lv_goto (tgt := 60) hx hb dX0_game_111 (by decide) ?_
  exact hk60 _ _ _ _ _ _ _ _ _ hp (lv_sub hl [1, 2, 3, 4, 0] rfl) hF
def fb_X0_game_104 (S : mSh) (k60 : mMm → Nat → Int32 → Int32 → Int32 → Int32 → Option (Int32 × mMm)) (M : mMm) (x0 : Nat) (x1 : Int32) (x2 : Int32) (x5 : Int32) (x6 : Int32) : Option (Int32 × mMm) := (fb_X0_game_108 S k60 M x0 x1 x2 x6 x5)
theorem b_X0_game_104 {r : Int32} {M' : mMm} (X : mCx D n0 P p m c cX0_game 7 s args yX0_game.cls meth (some .int)) (k60 : mMm → Nat → Int32 → Int32 → Int32 → Int32 → Option (Int32 × mMm)) (hk60 : ∀ (M : mMm) (x0 : Nat) (x1 : Int32) (x2 : Int32) (x4 : Int32) (x5 : Int32) (H : Heap) (locs : List Loc) (ls : Array Slot), mHp D n0 S M n s H locs → lv_has ls 7 [(0, .ref x0), (1, .int x1), (2, .int x2), (4, .int x4), (5, .int x5)] → k60 M x0 x1 x2 x4 x5 = some (r, M') → W p l e Rm_X0_game s m args below meth c H locs 0 0 (MQ below (mQ D n0 (some (.int r)) S M' n) args s 0 0 (mA n0)) (F0 m 60 ls [])) : ∀ (M : mMm) (x0 : Nat) (x1 : Int32) (x2 : Int32) (x5 : Int32) (x6 : Int32) (H : Heap) (locs : List Loc) (ls : Array Slot), mHp D n0 S M n s H locs → lv_has ls 7 [(0, .ref x0), (1, .int x1), (2, .int x2), (5, .int x5), (6, .int x6)] → fb_X0_game_104 S k60 M x0 x1 x2 x5 x6 = some (r, M') → W p l e Rm_X0_game s m args below meth c H locs 0 0 (MQ below (mQ D n0 (some (.int r)) S M' n) args s 0 0 (mA n0)) (F0 m 104 ls []) := by
  have hx := X.1.1
  have hb := X.1.2.1
  have hown := X.1.2.2.2.1
  have hts := X.1.2.2.2.2
  intro M x0 x1 x2 x5 x6 H locs ls hp hl hF
  unfold fb_X0_game_104 at hF
  refine lv_iload hx hb dX0_game_104 (lv_at hl 4 rfl) ?_
  refine lv_istore (lv' := [(4, .int x6), (0, .ref x0), (1, .int x1), (2, .int x2), (5, .int x5), (6, .int x6)]) hx hb dX0_game_106 hl (by decide) rfl (fun ls hl => ?_)
  exact b_X0_game_108 X _ hk60 _ _ _ _ _ _ _ _ _ hp (lv_sub hl [1, 2, 3, 0, 4] rfl) hF
def fb_X0_game_60 (S : mSh) : Nat → mMm → Nat → Int32 → Int32 → Int32 → Int32 → Option (Int32 × mMm)
  | 0, _, _, _, _, _, _ => none
  | t + 1, M, x0, x1, x2, x4, x5 => (if (4 : Int32) ≤ x5 then some (x4, M) else ob (f_X0_bent x1 x2 x5) fun v25 => (if v25 = (-1 : Int32) then (fb_X0_game_108 S (fb_X0_game_60 S t) M x0 x1 x2 x4 x5) else ob (rR S M x0 1 29) fun v27 => ob (aI S M v27 100 v25) fun v29 => (if v29 = 0 then (if x4 = (-1 : Int32) then (fb_X0_game_104 S (fb_X0_game_60 S t) M x0 x1 x2 x5 v25) else (if x4 ≤ v25 then (fb_X0_game_108 S (fb_X0_game_60 S t) M x0 x1 x2 x4 x5) else (fb_X0_game_104 S (fb_X0_game_60 S t) M x0 x1 x2 x5 v25))) else (fb_X0_game_108 S (fb_X0_game_60 S t) M x0 x1 x2 x4 x5))))
theorem b_X0_game_60 {r : Int32} {M' : mMm} (X : mCx D n0 P p m c cX0_game 7 s args yX0_game.cls meth (some .int)) : ∀ t : Nat, ∀ (M : mMm) (x0 : Nat) (x1 : Int32) (x2 : Int32) (x4 : Int32) (x5 : Int32) (H : Heap) (locs : List Loc) (ls : Array Slot), mHp D n0 S M n s H locs → lv_has ls 7 [(0, .ref x0), (1, .int x1), (2, .int x2), (4, .int x4), (5, .int x5)] → fb_X0_game_60 S t M x0 x1 x2 x4 x5 = some (r, M') → W p l e Rm_X0_game s m args below meth c H locs 0 0 (MQ below (mQ D n0 (some (.int r)) S M' n) args s 0 0 (mA n0)) (F0 m 60 ls []) := by
  have hx := X.1.1
  have hb := X.1.2.1
  have hown := X.1.2.2.2.1
  have hts := X.1.2.2.2.2
  intro t
  induction t with
  | zero =>
    intro M x0 x1 x2 x4 x5 H locs ls hp hl hF
    have hF : none = some (r, M') := hF
    cases hF
  | succ t ih =>
    intro M x0 x1 x2 x4 x5 H locs ls hp hl hF
    rw [fb_X0_game_60] at hF
    refine lv_iload hx hb dX0_game_60 (lv_at hl 4 rfl) ?_
    refine lv_iconst (v := 4) hx hb dX0_game_62 (by decide) ?_
    refine lv_icmp_ge (tgt := 114) hx hb dX0_game_63 (by decide) (fun c23 => ?_) (fun c23 => ?_)
    · have hF := if_p c23 hF
      refine lv_iload hx hb dX0_game_114 (lv_at hl 3 rfl) ?_
      cases hF
      exact m_iret X hp dX0_game_116
    · have hF := if_n c23 hF
      refine lv_iload_n hx hb dX0_game_66 rfl (lv_at hl 1 rfl) ?_
      refine lv_iload_n hx hb dX0_game_67 rfl (lv_at hl 2 rfl) ?_
      refine lv_iload hx hb dX0_game_68 (lv_at hl 4 rfl) ?_
      obtain ⟨v25, e24, hF⟩ := ob_s hF
      refine m_callS (As := [.int x1, .int x2, .int x5]) (rest := []) X hp (w_X0_bent e24) q1429 q1430 q132 q1431 3 rfl ds_X0_bent ⟨Nat.le_of_ble_eq_true rfl, Nat.le_of_ble_eq_true rfl⟩ hl.1 rfl (Nat.le_of_ble_eq_true rfl) dX0_game_70 ⟨Nat.le_refl 0, Nat.le_refl 0⟩ (fun H locs hp => ?_)
      refine lv_istore (lv' := [(6, .int v25), (0, .ref x0), (1, .int x1), (2, .int x2), (4, .int x4), (5, .int x5)]) hx hb dX0_game_73 hl (by decide) rfl (fun ls hl => ?_)
      refine lv_iload hx hb dX0_game_75 (lv_at hl 0 rfl) ?_
      refine lv_iconst (v := -1) hx hb dX0_game_77 (by decide) ?_
      refine lv_icmp_eq (tgt := 108) hx hb dX0_game_78 (by decide) (fun c26 => ?_) (fun c26 => ?_)
      · have hF := if_p c26 hF
        exact b_X0_game_108 X _ ih _ _ _ _ _ _ _ _ _ hp (lv_sub hl [1, 2, 3, 4, 5] rfl) hF
      · have hF := if_n c26 hF
        refine lv_aload_n hx hb dX0_game_81 rfl (lv_at hl 1 rfl) ?_
        obtain ⟨v27, e28, hF⟩ := ob_s hF
        refine m_getR X hp e28 kX0 (Nat.le_of_ble_eq_true rfl) q489 dX0_game_82 ?_
        refine lv_iload hx hb dX0_game_85 (lv_at hl 0 rfl) ?_
        obtain ⟨v29, e30, hF⟩ := ob_s hF
        refine m_iaI X hp e30 dX0_game_87 ?_
        refine lv_if_ne (tgt := 108) hx hb dX0_game_88 (by decide) (fun c31 => ?_) (fun c31 => ?_)
        · have hF := if_n c31 hF
          exact b_X0_game_108 X _ ih _ _ _ _ _ _ _ _ _ hp (lv_sub hl [1, 2, 3, 4, 5] rfl) hF
        · have hF := if_p c31 hF
          refine lv_iload hx hb dX0_game_91 (lv_at hl 4 rfl) ?_
          refine lv_iconst (v := -1) hx hb dX0_game_93 (by decide) ?_
          refine lv_icmp_eq (tgt := 104) hx hb dX0_game_94 (by decide) (fun c32 => ?_) (fun c32 => ?_)
          · have hF := if_p c32 hF
            exact b_X0_game_104 X _ ih _ _ _ _ _ _ _ _ _ hp (lv_sub hl [1, 2, 3, 5, 0] rfl) hF
          · have hF := if_n c32 hF
            refine lv_iload hx hb dX0_game_97 (lv_at hl 0 rfl) ?_
            refine lv_iload hx hb dX0_game_99 (lv_at hl 4 rfl) ?_
            refine lv_icmp_ge (tgt := 108) hx hb dX0_game_101 (by decide) (fun c33 => ?_) (fun c33 => ?_)
            · have hF := if_p c33 hF
              exact b_X0_game_108 X _ ih _ _ _ _ _ _ _ _ _ hp (lv_sub hl [1, 2, 3, 4, 5] rfl) hF
            · have hF := if_n c33 hF
              exact b_X0_game_104 X _ ih _ _ _ _ _ _ _ _ _ hp (lv_sub hl [1, 2, 3, 5, 0] rfl) hF
def f_X0_game (S : mSh) (M : mMm) (x0 : Nat) (x1 : Int32) (x2 : Int32) (x3 : Int32) : Option (Int32 × mMm) := ob (f_X0_isIn x1 (0 : Int32) (30 : Int32)) fun v2 => (if v2 = 0 then some ((-1 : Int32), M) else ob (f_X0_isIn x2 (0 : Int32) (30 : Int32)) fun v5 => (if v5 = 0 then some ((-1 : Int32), M) else ob (f_X0_isIn x3 (0 : Int32) (1 : Int32)) fun v8 => (if v8 = 0 then some ((-1 : Int32), M) else gd ((S x0).1 = 1) (ob (f_X0_laysNims S M x0 (x1 + x2)) fun M13 => (if x3 = 0 then ob (rR S M13 x0 1 29) fun v19 => ob (aI S M13 v19 100 (((61 : Int32) * x2) + x1)) fun v21 => some (v21, M13) else nm ((-1 : Int32)) fun v15 => nm ((0 : Int32)) fun v17 => (fb_X0_game_60 S FU M13 x0 x1 x2 v15 v17))))))
theorem w_X0_game {x0 : Nat} {x1 : Int32} {x2 : Int32} {x3 : Int32} {r : Int32} {M' : mMm} (hF : f_X0_game S M x0 x1 x2 x3 = some (r, M')) : mCt l D n0 P yX0_game cX0_game 7 (some .int) 2 49 0 0 [.ref x0, .int x1, .int x2, .int x3] S M n (some (.int r)) S M' n := by
  refine m_ofW (by decide) (Nat.le_of_ble_eq_true rfl) (fun p e s m below meth c X hnm hp ls hl => ?_)
  have hx := X.1.1
  have hb := X.1.2.1
  have hown := X.1.2.2.2.1
  have hts := X.1.2.2.2.2
  have hl : lv_has ls 7 [(0, .ref x0), (1, .int x1), (2, .int x2), (3, .int x3)] := hl
  unfold f_X0_game at hF
  refine lv_iload_n hx hb dX0_game_0 rfl (lv_at hl 1 rfl) ?_
  refine lv_iconst (v := 0) hx hb dX0_game_1 (by decide) ?_
  refine lv_bipush (v := 30) hx hb dX0_game_2 (by decide) ?_
  obtain ⟨v2, e1, hF⟩ := ob_s hF
  refine m_callS (As := [.int x1, .int (0 : Int32), .int (30 : Int32)]) (rest := []) X hp (w_X0_isIn e1) q565 q566 q132 q567 3 rfl ds_X0_isIn ⟨Nat.le_of_ble_eq_true rfl, Nat.le_of_ble_eq_true rfl⟩ hl.1 rfl (Nat.le_of_ble_eq_true rfl) dX0_game_4 ⟨Nat.le_refl 0, Nat.le_refl 0⟩ (fun H locs hp => ?_)
  refine lv_if_eq (tgt := 29) hx hb dX0_game_7 (by decide) (fun c3 => ?_) (fun c3 => ?_)
  · have hF := if_p c3 hF
    refine lv_iconst (v := -1) hx hb dX0_game_29 (by decide) ?_
    cases hF
    exact m_iret X hp dX0_game_30
  · have hF := if_n c3 hF
    refine lv_iload_n hx hb dX0_game_10 rfl (lv_at hl 2 rfl) ?_
    refine lv_iconst (v := 0) hx hb dX0_game_11 (by decide) ?_
    refine lv_bipush (v := 30) hx hb dX0_game_12 (by decide) ?_
    obtain ⟨v5, e4, hF⟩ := ob_s hF
    refine m_callS (As := [.int x2, .int (0 : Int32), .int (30 : Int32)]) (rest := []) X hp (w_X0_isIn e4) q565 q566 q132 q567 3 rfl ds_X0_isIn ⟨Nat.le_of_ble_eq_true rfl, Nat.le_of_ble_eq_true rfl⟩ hl.1 rfl (Nat.le_of_ble_eq_true rfl) dX0_game_14 ⟨Nat.le_refl 0, Nat.le_refl 0⟩ (fun H locs hp => ?_)
    refine lv_if_eq (tgt := 29) hx hb dX0_game_17 (by decide) (fun c6 => ?_) (fun c6 => ?_)
    · have hF := if_p c6 hF
      refine lv_iconst (v := -1) hx hb dX0_game_29 (by decide) ?_
      cases hF
      exact m_iret X hp dX0_game_30
    · have hF := if_n c6 hF
      refine lv_iload_n hx hb dX0_game_20 rfl (lv_at hl 3 rfl) ?_
      refine lv_iconst (v := 0) hx hb dX0_game_21 (by decide) ?_
      refine lv_iconst (v := 1) hx hb dX0_game_22 (by decide) ?_
      obtain ⟨v8, e7, hF⟩ := ob_s hF
      refine m_callS (As := [.int x3, .int (0 : Int32), .int (1 : Int32)]) (rest := []) X hp (w_X0_isIn e7) q565 q566 q132 q567 3 rfl ds_X0_isIn ⟨Nat.le_of_ble_eq_true rfl, Nat.le_of_ble_eq_true rfl⟩ hl.1 rfl (Nat.le_of_ble_eq_true rfl) dX0_game_23 ⟨Nat.le_refl 0, Nat.le_refl 0⟩ (fun H locs hp => ?_)
      refine lv_if_ne (tgt := 31) hx hb dX0_game_26 (by decide) (fun c9 => ?_) (fun c9 => ?_)
      · have hF := if_n c9 hF
        refine lv_aload_n hx hb dX0_game_31 rfl (lv_at hl 0 rfl) ?_
        refine lv_iload_n hx hb dX0_game_32 rfl (lv_at hl 1 rfl) ?_
        refine lv_iload_n hx hb dX0_game_33 rfl (lv_at hl 2 rfl) ?_
        refine lv_iadd hx hb dX0_game_34 ?_
        obtain ⟨g10, hF⟩ := gd_s hF
        obtain ⟨M13, e11, hF⟩ := ob_s hF
        refine m_callV (As := [.int (x1 + x2)]) (rest := []) X hp (w_X0_laysNims e11) q1425 q1427 qs63 q132 q1428 1 rfl ds_X0_laysNims ⟨Nat.le_of_ble_eq_true rfl, Nat.le_of_ble_eq_true rfl⟩ 1 (T := TX0) (N := 30) rfl (by decide) g10 hl.1 rfl (Nat.le_of_ble_eq_true rfl) dX0_game_35 ⟨Nat.le_refl 0, Nat.le_refl 0⟩ (fun H locs hp => ?_)
        refine lv_iload_n hx hb dX0_game_38 rfl (lv_at hl 3 rfl) ?_
        refine lv_if_ne (tgt := 54) hx hb dX0_game_39 (by decide) (fun c14 => ?_) (fun c14 => ?_)
        · have hF := if_n c14 hF
          refine lv_iconst (v := -1) hx hb dX0_game_54 (by decide) ?_
          refine lv_topi (fun v15 ev16 => ?_)
          have hF := nm_s hF ev16
          refine lv_istore (lv' := [(4, .int v15), (0, .ref x0), (1, .int x1), (2, .int x2), (3, .int x3)]) hx hb dX0_game_55 hl (by decide) rfl (fun ls hl => ?_)
          refine lv_iconst (v := 0) hx hb dX0_game_57 (by decide) ?_
          refine lv_topi (fun v17 ev18 => ?_)
          have hF := nm_s hF ev18
          refine lv_istore (lv' := [(5, .int v17), (4, .int v15), (0, .ref x0), (1, .int x1), (2, .int x2), (3, .int x3)]) hx hb dX0_game_58 hl (by decide) rfl (fun ls hl => ?_)
          exact b_X0_game_60 X _ _ _ _ _ _ _ _ _ _ hp (lv_sub hl [2, 3, 4, 1, 0] rfl) hF
        · have hF := if_p c14 hF
          refine lv_aload_n hx hb dX0_game_42 rfl (lv_at hl 0 rfl) ?_
          obtain ⟨v19, e20, hF⟩ := ob_s hF
          refine m_getR X hp e20 kX0 (Nat.le_of_ble_eq_true rfl) q489 dX0_game_43 ?_
          refine lv_bipush (v := 61) hx hb dX0_game_46 (by decide) ?_
          refine lv_iload_n hx hb dX0_game_48 rfl (lv_at hl 2 rfl) ?_
          refine lv_imul hx hb dX0_game_49 ?_
          refine lv_iload_n hx hb dX0_game_50 rfl (lv_at hl 1 rfl) ?_
          refine lv_iadd hx hb dX0_game_51 ?_
          obtain ⟨v21, e22, hF⟩ := ob_s hF
          refine m_iaI X hp e22 dX0_game_52 ?_
          cases hF
          exact m_iret X hp dX0_game_53
      · have hF := if_p c9 hF
        refine lv_iconst (v := -1) hx hb dX0_game_29 (by decide) ?_
        cases hF
        exact m_iret X hp dX0_game_30
end
section
variable {l : Launch} {D : va_G} {n0 : Nat} {P : mP} {S : mSh} {M : mMm} {n : Nat} {p : Program} {e : Env} {s : State} {m : MethodId} {args : Array Value} {below : List Frame} {meth : Method} {c : Code}
abbrev Rm_X3_ends : Room := { frames := 0, cells := 0, slots := 0, locals := 0 }
def f_X3_ends (S : mSh) (M : mMm) (x0 : Nat) : Option (Int32 × mMm) := ob (wF S M x0 4 1 (.int (0 : Int32))) fun M1 => some ((0 : Int32), M1)
theorem w_X3_ends {x0 : Nat} {r : Int32} {M' : mMm} (hF : f_X3_ends S M x0 = some (r, M')) : mCt l D n0 P yX3_ends cX3_ends 1 (some .int) 0 0 0 0 [.ref x0] S M n (some (.int r)) S M' n := by
  refine m_ofW (by decide) (Nat.le_of_ble_eq_true rfl) (fun p e s m below meth c X hnm hp ls hl => ?_)
  have hx := X.1.1
  have hb := X.1.2.1
  have hown := X.1.2.2.2.1
  have hts := X.1.2.2.2.2
  have hl : lv_has ls 1 [(0, .ref x0)] := hl
  unfold f_X3_ends at hF
  refine lv_aload_n hx hb dX3_ends_0 rfl (lv_at hl 0 rfl) ?_
  refine lv_iconst (v := 0) hx hb dX3_ends_1 (by decide) ?_
  obtain ⟨M1, e2, hF⟩ := ob_s hF
  refine m_putW X hp e2 kX3 (Nat.le_of_ble_eq_true rfl) q213 rfl rfl rfl dX3_ends_2 (fun H locs hp => ?_)
  refine lv_iconst (v := 0) hx hb dX3_ends_5 (by decide) ?_
  cases hF
  exact m_iret X hp dX3_ends_6
end
section
variable {l : Launch} {D : va_G} {n0 : Nat} {P : mP} {S : mSh} {M : mMm} {n : Nat} {p : Program} {e : Env} {s : State} {m : MethodId} {args : Array Value} {below : List Frame} {meth : Method} {c : Code}
abbrev Rm_X3_tells : Room := { frames := 0, cells := 0, slots := 0, locals := 0 }
def f_X3_tells (S : mSh) (M : mMm) (x0 : Nat) (x1 : Int32) (x2 : Int32) : Option (Int32 × mMm) := ob (rI S M x0 4 1) fun v1 => ob (rR S M x0 4 0) fun v3 => ob (aN S v3 108) fun v5 => (if v1 = v5 then some ((-1 : Int32), M) else ob (rR S M x0 4 0) fun v8 => ob (rI S M x0 4 1) fun v10 => ob (aR S M v8 108 v10) fun v12 => ob (wA S M v12 100 (0 : Int32) (.int x1)) fun M14 => ob (rR S M14 x0 4 0) fun v16 => ob (rI S M14 x0 4 1) fun v18 => ob (aR S M14 v16 108 v18) fun v20 => ob (wA S M14 v20 100 (1 : Int32) (.int x2)) fun M22 => ob (rI S M22 x0 4 1) fun v24 => ob (wF S M22 x0 4 1 (.int (v24 + (1 : Int32)))) fun M26 => ob (rI S M26 x0 4 1) fun v28 => some (v28, M26))
theorem w_X3_tells {x0 : Nat} {x1 : Int32} {x2 : Int32} {r : Int32} {M' : mMm} (hF : f_X3_tells S M x0 x1 x2 = some (r, M')) : mCt l D n0 P yX3_tells cX3_tells 3 (some .int) 0 0 0 0 [.ref x0, .int x1, .int x2] S M n (some (.int r)) S M' n := by
  refine m_ofW (by decide) (Nat.le_of_ble_eq_true rfl) (fun p e s m below meth c X hnm hp ls hl => ?_)
  have hx := X.1.1
  have hb := X.1.2.1
  have hown := X.1.2.2.2.1
  have hts := X.1.2.2.2.2
  have hl : lv_has ls 3 [(0, .ref x0), (1, .int x1), (2, .int x2)] := hl
  unfold f_X3_tells at hF
  refine lv_aload_n hx hb dX3_tells_0 rfl (lv_at hl 0 rfl) ?_
  obtain ⟨v1, e2, hF⟩ := ob_s hF
  refine m_getI X hp e2 kX3 (Nat.le_of_ble_eq_true rfl) q213 dX3_tells_1 ?_
  refine lv_aload_n hx hb dX3_tells_4 rfl (lv_at hl 0 rfl) ?_
  obtain ⟨v3, e4, hF⟩ := ob_s hF
  refine m_getR X hp e4 kX3 (Nat.le_of_ble_eq_true rfl) q212 dX3_tells_5 ?_
  obtain ⟨v5, e6, hF⟩ := ob_s hF
  refine m_aln 108 X hp e6 rfl (by decide) dX3_tells_8 ?_
  refine lv_icmp_ne (tgt := 14) hx hb dX3_tells_9 (by decide) (fun c7 => ?_) (fun c7 => ?_)
  · have hF := if_n c7 hF
    refine lv_aload_n hx hb dX3_tells_14 rfl (lv_at hl 0 rfl) ?_
    obtain ⟨v8, e9, hF⟩ := ob_s hF
    refine m_getR X hp e9 kX3 (Nat.le_of_ble_eq_true rfl) q212 dX3_tells_15 ?_
    refine lv_aload_n hx hb dX3_tells_18 rfl (lv_at hl 0 rfl) ?_
    obtain ⟨v10, e11, hF⟩ := ob_s hF
    refine m_getI X hp e11 kX3 (Nat.le_of_ble_eq_true rfl) q213 dX3_tells_19 ?_
    obtain ⟨v12, e13, hF⟩ := ob_s hF
    refine m_aaR 108 X hp e13 rfl (by decide) rfl dX3_tells_22 ?_
    refine lv_iconst (v := 0) hx hb dX3_tells_23 (by decide) ?_
    refine lv_iload_n hx hb dX3_tells_24 rfl (lv_at hl 1 rfl) ?_
    obtain ⟨M14, e15, hF⟩ := ob_s hF
    refine m_iaW X hp e15 dX3_tells_25 (fun H locs hp => ?_)
    refine lv_aload_n hx hb dX3_tells_26 rfl (lv_at hl 0 rfl) ?_
    obtain ⟨v16, e17, hF⟩ := ob_s hF
    refine m_getR X hp e17 kX3 (Nat.le_of_ble_eq_true rfl) q212 dX3_tells_27 ?_
    refine lv_aload_n hx hb dX3_tells_30 rfl (lv_at hl 0 rfl) ?_
    obtain ⟨v18, e19, hF⟩ := ob_s hF
    refine m_getI X hp e19 kX3 (Nat.le_of_ble_eq_true rfl) q213 dX3_tells_31 ?_
    obtain ⟨v20, e21, hF⟩ := ob_s hF
    refine m_aaR 108 X hp e21 rfl (by decide) rfl dX3_tells_34 ?_
    refine lv_iconst (v := 1) hx hb dX3_tells_35 (by decide) ?_
    refine lv_iload_n hx hb dX3_tells_36 rfl (lv_at hl 2 rfl) ?_
    obtain ⟨M22, e23, hF⟩ := ob_s hF
    refine m_iaW X hp e23 dX3_tells_37 (fun H locs hp => ?_)
    refine lv_aload_n hx hb dX3_tells_38 rfl (lv_at hl 0 rfl) ?_
    refine lv_dup hx hb dX3_tells_39 rfl ?_
    obtain ⟨v24, e25, hF⟩ := ob_s hF
    refine m_getI X hp e25 kX3 (Nat.le_of_ble_eq_true rfl) q213 dX3_tells_40 ?_
    refine lv_iconst (v := 1) hx hb dX3_tells_43 (by decide) ?_
    refine lv_iadd hx hb dX3_tells_44 ?_
    obtain ⟨M26, e27, hF⟩ := ob_s hF
    refine m_putW X hp e27 kX3 (Nat.le_of_ble_eq_true rfl) q213 rfl rfl rfl dX3_tells_45 (fun H locs hp => ?_)
    refine lv_aload_n hx hb dX3_tells_48 rfl (lv_at hl 0 rfl) ?_
    obtain ⟨v28, e29, hF⟩ := ob_s hF
    refine m_getI X hp e29 kX3 (Nat.le_of_ble_eq_true rfl) q213 dX3_tells_49 ?_
    cases hF
    exact m_iret X hp dX3_tells_52
  · have hF := if_p c7 hF
    refine lv_iconst (v := -1) hx hb dX3_tells_12 (by decide) ?_
    cases hF
    exact m_iret X hp dX3_tells_13
end
section
variable {l : Launch} {D : va_G} {n0 : Nat} {P : mP} {S : mSh} {M : mMm} {n : Nat} {p : Program} {e : Env} {s : State} {m : MethodId} {args : Array Value} {below : List Frame} {meth : Method} {c : Code}
abbrev Rm_X0_gap : Room := { frames := 1, cells := 0, slots := 0, locals := 22 }
def f_X0_gap (S : mSh) (M : mMm) (x0 : Nat) (x1 : Int32) (x2 : Int32) : Option (Int32 × mMm) := (if x1 = (-1 : Int32) then ob (rR S M x0 1 4) fun v16 => ob (rR S M v16 2 6) fun v18 => gd ((S v18).1 = 4) (ob (f_X3_ends S M v18) fun ⟨v22, M23⟩ => some (v22, M23)) else ob (f_X0_isIn x1 (0 : Int32) (7 : Int32)) fun v3 => (if v3 = 0 then some ((-1 : Int32), M) else ob (f_X0_isIn x2 (0 : Int32) (30 : Int32)) fun v6 => (if v6 = 0 then some ((-1 : Int32), M) else ob (rR S M x0 1 4) fun v8 => ob (rR S M v8 2 6) fun v10 => gd ((S v10).1 = 4) (ob (f_X3_tells S M v10 x1 x2) fun ⟨v14, M15⟩ => some (v14, M15)))))
theorem w_X0_gap {x0 : Nat} {x1 : Int32} {x2 : Int32} {r : Int32} {M' : mMm} (hF : f_X0_gap S M x0 x1 x2 = some (r, M')) : mCt l D n0 P yX0_gap cX0_gap 3 (some .int) 1 22 0 0 [.ref x0, .int x1, .int x2] S M n (some (.int r)) S M' n := by
  refine m_ofW (by decide) (Nat.le_of_ble_eq_true rfl) (fun p e s m below meth c X hnm hp ls hl => ?_)
  have hx := X.1.1
  have hb := X.1.2.1
  have hown := X.1.2.2.2.1
  have hts := X.1.2.2.2.2
  have hl : lv_has ls 3 [(0, .ref x0), (1, .int x1), (2, .int x2)] := hl
  unfold f_X0_gap at hF
  refine lv_iload_n hx hb dX0_gap_0 rfl (lv_at hl 1 rfl) ?_
  refine lv_iconst (v := -1) hx hb dX0_gap_1 (by decide) ?_
  refine lv_icmp_ne (tgt := 18) hx hb dX0_gap_2 (by decide) (fun c1 => ?_) (fun c1 => ?_)
  · have hF := if_n c1 hF
    refine lv_iload_n hx hb dX0_gap_18 rfl (lv_at hl 1 rfl) ?_
    refine lv_iconst (v := 0) hx hb dX0_gap_19 (by decide) ?_
    refine lv_bipush (v := 7) hx hb dX0_gap_20 (by decide) ?_
    obtain ⟨v3, e2, hF⟩ := ob_s hF
    refine m_callS (As := [.int x1, .int (0 : Int32), .int (7 : Int32)]) (rest := []) X hp (w_X0_isIn e2) q565 q566 q132 q567 3 rfl ds_X0_isIn ⟨Nat.le_of_ble_eq_true rfl, Nat.le_of_ble_eq_true rfl⟩ hl.1 rfl (Nat.le_of_ble_eq_true rfl) dX0_gap_22 ⟨Nat.le_refl 0, Nat.le_refl 0⟩ (fun H locs hp => ?_)
    refine lv_if_eq (tgt := 53) hx hb dX0_gap_25 (by decide) (fun c4 => ?_) (fun c4 => ?_)
    · have hF := if_p c4 hF
      refine lv_iconst (v := -1) hx hb dX0_gap_53 (by decide) ?_
      cases hF
      exact m_iret X hp dX0_gap_54
    · have hF := if_n c4 hF
      refine lv_iload_n hx hb dX0_gap_28 rfl (lv_at hl 2 rfl) ?_
      refine lv_iconst (v := 0) hx hb dX0_gap_29 (by decide) ?_
      refine lv_bipush (v := 30) hx hb dX0_gap_30 (by decide) ?_
      obtain ⟨v6, e5, hF⟩ := ob_s hF
      refine m_callS (As := [.int x2, .int (0 : Int32), .int (30 : Int32)]) (rest := []) X hp (w_X0_isIn e5) q565 q566 q132 q567 3 rfl ds_X0_isIn ⟨Nat.le_of_ble_eq_true rfl, Nat.le_of_ble_eq_true rfl⟩ hl.1 rfl (Nat.le_of_ble_eq_true rfl) dX0_gap_32 ⟨Nat.le_refl 0, Nat.le_refl 0⟩ (fun H locs hp => ?_)
      refine lv_if_eq (tgt := 53) hx hb dX0_gap_35 (by decide) (fun c7 => ?_) (fun c7 => ?_)
      · have hF := if_p c7 hF
        refine lv_iconst (v := -1) hx hb dX0_gap_53 (by decide) ?_
        cases hF
        exact m_iret X hp dX0_gap_54
      · have hF := if_n c7 hF
        refine lv_aload_n hx hb dX0_gap_38 rfl (lv_at hl 0 rfl) ?_
        obtain ⟨v8, e9, hF⟩ := ob_s hF
        refine m_getR X hp e9 kX0 (Nat.le_of_ble_eq_true rfl) q463 dX0_gap_39 ?_
        obtain ⟨v10, e11, hF⟩ := ob_s hF
        refine m_getRN X hp e11 kX1 (Nat.le_of_ble_eq_true rfl) q388 dX0_gap_42 ?_
        refine lv_iload_n hx hb dX0_gap_45 rfl (lv_at hl 1 rfl) ?_
        refine lv_iload_n hx hb dX0_gap_46 rfl (lv_at hl 2 rfl) ?_
        obtain ⟨g12, hF⟩ := gd_s hF
        obtain ⟨⟨v14, M15⟩, e13, hF⟩ := ob_s hF
        refine m_callV (As := [.int x1, .int x2]) (rest := []) X hp (w_X3_tells e13) q1284 q1285 q1286 q135 q1287 2 rfl ds_X3_tells ⟨Nat.le_of_ble_eq_true rfl, Nat.le_of_ble_eq_true rfl⟩ 4 (T := TX3) (N := 2) rfl (by decide) g12 hl.1 rfl (Nat.le_of_ble_eq_true rfl) dX0_gap_47 ⟨Nat.le_refl 0, Nat.le_refl 0⟩ (fun H locs hp => ?_)
        refine lv_goto (tgt := 54) hx hb dX0_gap_50 (by decide) ?_
        cases hF
        exact m_iret X hp dX0_gap_54
  · have hF := if_p c1 hF
    refine lv_aload_n hx hb dX0_gap_5 rfl (lv_at hl 0 rfl) ?_
    obtain ⟨v16, e17, hF⟩ := ob_s hF
    refine m_getR X hp e17 kX0 (Nat.le_of_ble_eq_true rfl) q463 dX0_gap_6 ?_
    obtain ⟨v18, e19, hF⟩ := ob_s hF
    refine m_getRN X hp e19 kX1 (Nat.le_of_ble_eq_true rfl) q388 dX0_gap_9 ?_
    obtain ⟨g20, hF⟩ := gd_s hF
    obtain ⟨⟨v22, M23⟩, e21, hF⟩ := ob_s hF
    refine m_callV (As := []) (rest := []) X hp (w_X3_ends e21) q1280 q1281 q1282 q135 q1283 0 rfl ds_X3_ends ⟨Nat.le_of_ble_eq_true rfl, Nat.le_of_ble_eq_true rfl⟩ 4 (T := TX3) (N := 2) rfl (by decide) g20 hl.1 rfl (Nat.le_of_ble_eq_true rfl) dX0_gap_12 ⟨Nat.le_refl 0, Nat.le_refl 0⟩ (fun H locs hp => ?_)
    refine lv_goto (tgt := 54) hx hb dX0_gap_15 (by decide) ?_
    cases hF
    exact m_iret X hp dX0_gap_54
end
section
variable {l : Launch} {D : va_G} {n0 : Nat} {P : mP} {S : mSh} {M : mMm} {n : Nat} {p : Program} {e : Env} {s : State} {m : MethodId} {args : Array Value} {below : List Frame} {meth : Method} {c : Code}
abbrev Rm_X1_thinks : Room := { frames := 5, cells := 0, slots := 0, locals := 104 }
def f_X1_thinks (S : mSh) (M : mMm) (x0 : Nat) (x1 : Nat) : Option mMm := gd ((S x0).1 = 2) (ob (f_X1_moves S M x0 x1) fun M4 => ob (rI S M4 x1 2 10) fun v5 => ob (wF S M4 x0 2 10 (.int v5)) fun M7 => ob (rR S M7 x1 2 7) fun v9 => ob (wF S M7 x0 2 7 (.ref v9)) fun M11 => ob (rR S M11 x1 2 8) fun v13 => ob (wF S M11 x0 2 8 (.ref v13)) fun M15 => ob (rR S M15 x1 2 9) fun v17 => ob (wF S M15 x0 2 9 (.ref v17)) fun M19 => ob (rI S M19 x1 2 15) fun v21 => ob (wF S M19 x0 2 15 (.int v21)) fun M23 => ob (rI S M23 x1 2 16) fun v25 => ob (wF S M23 x0 2 16 (.int v25)) fun M27 => some M27)
theorem w_X1_thinks {x0 : Nat} {x1 : Nat} {M' : mMm} (hF : f_X1_thinks S M x0 x1 = some M') : mCt l D n0 P yX1_thinks cX1_thinks 2 none 5 104 0 0 [.ref x0, .ref x1] S M n none S M' n := by
  refine m_ofW (by decide) (Nat.le_of_ble_eq_true rfl) (fun p e s m below meth c X hnm hp ls hl => ?_)
  have hx := X.1.1
  have hb := X.1.2.1
  have hown := X.1.2.2.2.1
  have hts := X.1.2.2.2.2
  have hl : lv_has ls 2 [(0, .ref x0), (1, .ref x1)] := hl
  unfold f_X1_thinks at hF
  refine lv_aload_n hx hb dX1_thinks_0 rfl (lv_at hl 0 rfl) ?_
  refine lv_aload_n hx hb dX1_thinks_1 rfl (lv_at hl 1 rfl) ?_
  obtain ⟨g1, hF⟩ := gd_s hF
  obtain ⟨M4, e2, hF⟩ := ob_s hF
  refine m_callV (As := [.ref x1]) (rest := []) X hp (w_X1_moves e2) q1213 q994 q995 q133 q996 1 rfl ds_X1_moves ⟨Nat.le_of_ble_eq_true rfl, Nat.le_of_ble_eq_true rfl⟩ 2 (T := TX1) (N := 19) rfl (by decide) g1 hl.1 rfl (Nat.le_of_ble_eq_true rfl) dX1_thinks_2 ⟨Nat.le_refl 0, Nat.le_refl 0⟩ (fun H locs hp => ?_)
  refine lv_aload_n hx hb dX1_thinks_5 rfl (lv_at hl 0 rfl) ?_
  refine lv_aload_n hx hb dX1_thinks_6 rfl (lv_at hl 1 rfl) ?_
  obtain ⟨v5, e6, hF⟩ := ob_s hF
  refine m_getI X hp e6 kX1 (Nat.le_of_ble_eq_true rfl) q395 dX1_thinks_7 ?_
  obtain ⟨M7, e8, hF⟩ := ob_s hF
  refine m_putW X hp e8 kX1 (Nat.le_of_ble_eq_true rfl) q395 rfl rfl rfl dX1_thinks_10 (fun H locs hp => ?_)
  refine lv_aload_n hx hb dX1_thinks_13 rfl (lv_at hl 0 rfl) ?_
  refine lv_aload_n hx hb dX1_thinks_14 rfl (lv_at hl 1 rfl) ?_
  obtain ⟨v9, e10, hF⟩ := ob_s hF
  refine m_getR X hp e10 kX1 (Nat.le_of_ble_eq_true rfl) q389 dX1_thinks_15 ?_
  obtain ⟨M11, e12, hF⟩ := ob_s hF
  refine m_putW X hp e12 kX1 (Nat.le_of_ble_eq_true rfl) q389 rfl rfl rfl dX1_thinks_18 (fun H locs hp => ?_)
  refine lv_aload_n hx hb dX1_thinks_21 rfl (lv_at hl 0 rfl) ?_
  refine lv_aload_n hx hb dX1_thinks_22 rfl (lv_at hl 1 rfl) ?_
  obtain ⟨v13, e14, hF⟩ := ob_s hF
  refine m_getR X hp e14 kX1 (Nat.le_of_ble_eq_true rfl) q391 dX1_thinks_23 ?_
  obtain ⟨M15, e16, hF⟩ := ob_s hF
  refine m_putW X hp e16 kX1 (Nat.le_of_ble_eq_true rfl) q391 rfl rfl rfl dX1_thinks_26 (fun H locs hp => ?_)
  refine lv_aload_n hx hb dX1_thinks_29 rfl (lv_at hl 0 rfl) ?_
  refine lv_aload_n hx hb dX1_thinks_30 rfl (lv_at hl 1 rfl) ?_
  obtain ⟨v17, e18, hF⟩ := ob_s hF
  refine m_getR X hp e18 kX1 (Nat.le_of_ble_eq_true rfl) q393 dX1_thinks_31 ?_
  obtain ⟨M19, e20, hF⟩ := ob_s hF
  refine m_putW X hp e20 kX1 (Nat.le_of_ble_eq_true rfl) q393 rfl rfl rfl dX1_thinks_34 (fun H locs hp => ?_)
  refine lv_aload_n hx hb dX1_thinks_37 rfl (lv_at hl 0 rfl) ?_
  refine lv_aload_n hx hb dX1_thinks_38 rfl (lv_at hl 1 rfl) ?_
  obtain ⟨v21, e22, hF⟩ := ob_s hF
  refine m_getI X hp e22 kX1 (Nat.le_of_ble_eq_true rfl) q406 dX1_thinks_39 ?_
  obtain ⟨M23, e24, hF⟩ := ob_s hF
  refine m_putW X hp e24 kX1 (Nat.le_of_ble_eq_true rfl) q406 rfl rfl rfl dX1_thinks_42 (fun H locs hp => ?_)
  refine lv_aload_n hx hb dX1_thinks_45 rfl (lv_at hl 0 rfl) ?_
  refine lv_aload_n hx hb dX1_thinks_46 rfl (lv_at hl 1 rfl) ?_
  obtain ⟨v25, e26, hF⟩ := ob_s hF
  refine m_getI X hp e26 kX1 (Nat.le_of_ble_eq_true rfl) q408 dX1_thinks_47 ?_
  obtain ⟨M27, e28, hF⟩ := ob_s hF
  refine m_putW X hp e28 kX1 (Nat.le_of_ble_eq_true rfl) q408 rfl rfl rfl dX1_thinks_50 (fun H locs hp => ?_)
  cases hF
  exact m_vret X hp dX1_thinks_53
end
section
variable {l : Launch} {D : va_G} {n0 : Nat} {P : mP} {S : mSh} {M : mMm} {n : Nat} {p : Program} {e : Env} {s : State} {m : MethodId} {args : Array Value} {below : List Frame} {meth : Method} {c : Code}
abbrev Rm_X1_next : Room := { frames := 3, cells := 0, slots := 0, locals := 64 }
def fb_X1_next_59 (S : mSh) (M : mMm) (y0 : Nat) : Option Nat := some y0
theorem b_X1_next_59 {r : Nat} (X : mCx D n0 P p m c cX1_next 2 s args yX1_next.cls meth (some (.object "WindingSquare$Step"))) : ∀ (y0 : Nat) (H : Heap) (locs : List Loc) (ls : Array Slot), mHp D n0 S M n s H locs → lv_has ls 2 [] → fb_X1_next_59 S M y0 = some r → W p l e Rm_X1_next s m args below meth c H locs 0 0 (MQ below (mQ D n0 (some (.ref r)) S M n) args s 0 0 (mA n0)) (F0 m 59 ls [.ref y0]) := by
  have hx := X.1.1
  have hb := X.1.2.1
  have hown := X.1.2.2.2.1
  have hts := X.1.2.2.2.2
  intro y0 H locs ls hp hl hF
  unfold fb_X1_next_59 at hF
  cases hF
  exact m_aret X hp (Or.inl ⟨_, rfl⟩) dX1_next_59
def f_X1_next (S : mSh) (M : mMm) (x0 : Nat) (x1 : Int32) : Option Nat := ob (rR S M x0 2 1) fun v1 => ob (aR S M v1 104 x1) fun v3 => ob (rI S M v3 5 6) fun v5 => ob (rR S M x0 2 8) fun v7 => gd ((S v7).1 = 15) (ob (f_J2_get S M v7 x1) fun v11 => gd ((S v11).1 = 15) (ob (f_J2_size S M v11) fun v14 => (if v14 ≤ v5 then ob (rR S M x0 2 2) fun v16 => (fb_X1_next_59 S M  v16) else ob (rR S M x0 2 8) fun v18 => gd ((S v18).1 = 15) (ob (f_J2_get S M v18 x1) fun v22 => gd ((S v22).1 = 15) (ob (rR S M x0 2 1) fun v24 => ob (aR S M v24 104 x1) fun v26 => ob (rI S M v26 5 6) fun v28 => ob (f_J2_get S M v22 v28) fun v31 => gd ((S v31).1 = 3) ((fb_X1_next_59 S M  v31)))))))
theorem w_X1_next {x0 : Nat} {x1 : Int32} {r : Nat} (hF : f_X1_next S M x0 x1 = some r) : mCt l D n0 P yX1_next cX1_next 2 (some (.object "WindingSquare$Step")) 3 64 0 0 [.ref x0, .int x1] S M n (some (.ref r)) S M n := by
  refine m_ofW (by decide) (Nat.le_of_ble_eq_true rfl) (fun p e s m below meth c X hnm hp ls hl => ?_)
  have hx := X.1.1
  have hb := X.1.2.1
  have hown := X.1.2.2.2.1
  have hts := X.1.2.2.2.2
  have hl : lv_has ls 2 [(0, .ref x0), (1, .int x1)] := hl
  unfold f_X1_next at hF
  refine lv_aload_n hx hb dX1_next_0 rfl (lv_at hl 0 rfl) ?_
  obtain ⟨v1, e2, hF⟩ := ob_s hF
  refine m_getR X hp e2 kX1 (Nat.le_of_ble_eq_true rfl) q377 dX1_next_1 ?_
  refine lv_iload_n hx hb dX1_next_4 rfl (lv_at hl 1 rfl) ?_
  obtain ⟨v3, e4, hF⟩ := ob_s hF
  refine m_aaR 104 X hp e4 rfl (by decide) rfl dX1_next_5 ?_
  obtain ⟨v5, e6, hF⟩ := ob_s hF
  refine m_getIN X hp e6 kX4 (Nat.le_of_ble_eq_true rfl) q270 dX1_next_6 ?_
  refine lv_aload_n hx hb dX1_next_9 rfl (lv_at hl 0 rfl) ?_
  obtain ⟨v7, e8, hF⟩ := ob_s hF
  refine m_getR X hp e8 kX1 (Nat.le_of_ble_eq_true rfl) q391 dX1_next_10 ?_
  refine lv_iload_n hx hb dX1_next_13 rfl (lv_at hl 1 rfl) ?_
  obtain ⟨g9, hF⟩ := gd_s hF
  obtain ⟨v11, e10, hF⟩ := ob_s hF
  refine m_callV (As := [.int x1]) (rest := [.int v5]) X hp (w_J2_get e10) q1088 q1089 q1090 q138 q1091 1 rfl ds_J2_get ⟨Nat.le_of_ble_eq_true rfl, Nat.le_of_ble_eq_true rfl⟩ 15 (T := TJ2) (N := 3) rfl (by decide) g9 hl.1 rfl (Nat.le_of_ble_eq_true rfl) dX1_next_14 ⟨Nat.le_refl 0, Nat.le_refl 0⟩ (fun H locs hp => ?_)
  obtain ⟨g12, hF⟩ := gd_s hF
  refine m_cast X hp kJ2 g12 q220 dX1_next_17 ?_
  obtain ⟨v14, e13, hF⟩ := ob_s hF
  refine m_callV (As := []) (rest := [.int v5]) X hp (w_J2_size e13) q1092 q808 q809 q138 q810 0 rfl ds_J2_size ⟨Nat.le_of_ble_eq_true rfl, Nat.le_of_ble_eq_true rfl⟩ 15 (T := TJ2) (N := 3) rfl (by decide) g12 hl.1 rfl (Nat.le_of_ble_eq_true rfl) dX1_next_20 ⟨Nat.le_refl 0, Nat.le_refl 0⟩ (fun H locs hp => ?_)
  refine lv_icmp_ge (tgt := 55) hx hb dX1_next_23 (by decide) (fun c15 => ?_) (fun c15 => ?_)
  · have hF := if_p c15 hF
    refine lv_aload_n hx hb dX1_next_55 rfl (lv_at hl 0 rfl) ?_
    obtain ⟨v16, e17, hF⟩ := ob_s hF
    refine m_getR X hp e17 kX1 (Nat.le_of_ble_eq_true rfl) q379 dX1_next_56 ?_
    exact b_X1_next_59 X  _ _ _ _ hp (lv_sub hl [] rfl) hF
  · have hF := if_n c15 hF
    refine lv_aload_n hx hb dX1_next_26 rfl (lv_at hl 0 rfl) ?_
    obtain ⟨v18, e19, hF⟩ := ob_s hF
    refine m_getR X hp e19 kX1 (Nat.le_of_ble_eq_true rfl) q391 dX1_next_27 ?_
    refine lv_iload_n hx hb dX1_next_30 rfl (lv_at hl 1 rfl) ?_
    obtain ⟨g20, hF⟩ := gd_s hF
    obtain ⟨v22, e21, hF⟩ := ob_s hF
    refine m_callV (As := [.int x1]) (rest := []) X hp (w_J2_get e21) q1088 q1089 q1090 q138 q1091 1 rfl ds_J2_get ⟨Nat.le_of_ble_eq_true rfl, Nat.le_of_ble_eq_true rfl⟩ 15 (T := TJ2) (N := 3) rfl (by decide) g20 hl.1 rfl (Nat.le_of_ble_eq_true rfl) dX1_next_31 ⟨Nat.le_refl 0, Nat.le_refl 0⟩ (fun H locs hp => ?_)
    obtain ⟨g23, hF⟩ := gd_s hF
    refine m_cast X hp kJ2 g23 q220 dX1_next_34 ?_
    refine lv_aload_n hx hb dX1_next_37 rfl (lv_at hl 0 rfl) ?_
    obtain ⟨v24, e25, hF⟩ := ob_s hF
    refine m_getR X hp e25 kX1 (Nat.le_of_ble_eq_true rfl) q377 dX1_next_38 ?_
    refine lv_iload_n hx hb dX1_next_41 rfl (lv_at hl 1 rfl) ?_
    obtain ⟨v26, e27, hF⟩ := ob_s hF
    refine m_aaR 104 X hp e27 rfl (by decide) rfl dX1_next_42 ?_
    obtain ⟨v28, e29, hF⟩ := ob_s hF
    refine m_getIN X hp e29 kX4 (Nat.le_of_ble_eq_true rfl) q270 dX1_next_43 ?_
    obtain ⟨v31, e30, hF⟩ := ob_s hF
    refine m_callV (As := [.int v28]) (rest := []) X hp (w_J2_get e30) q1088 q1089 q1090 q138 q1091 1 rfl ds_J2_get ⟨Nat.le_of_ble_eq_true rfl, Nat.le_of_ble_eq_true rfl⟩ 15 (T := TJ2) (N := 3) rfl (by decide) g23 hl.1 rfl (Nat.le_of_ble_eq_true rfl) dX1_next_46 ⟨Nat.le_refl 0, Nat.le_refl 0⟩ (fun H locs hp => ?_)
    obtain ⟨g32, hF⟩ := gd_s hF
    refine m_cast X hp kX2 g32 q178 dX1_next_49 ?_
    refine lv_goto (tgt := 59) hx hb dX1_next_52 (by decide) ?_
    exact b_X1_next_59 X  _ _ _ _ hp (lv_sub hl [] rfl) hF
end
section
variable {l : Launch} {D : va_G} {n0 : Nat} {P : mP} {S : mSh} {M : mMm} {n : Nat} {p : Program} {e : Env} {s : State} {m : MethodId} {args : Array Value} {below : List Frame} {meth : Method} {c : Code}
abbrev Rm_X4_does : Room := { frames := 0, cells := 0, slots := 0, locals := 0 }
def f_X4_does (S : mSh) (M : mMm) (x0 : Nat) (x1 : Int32) : Option mMm := ob (rI S M x0 5 7) fun v1 => ob (wF S M x0 5 7 (.int (v1 + (1 : Int32)))) fun M3 => ob (rI S M3 x0 5 7) fun v5 => (if x1 ≤ v5 then ob (wF S M3 x0 5 7 (.int (0 : Int32))) fun M8 => ob (rI S M8 x0 5 6) fun v10 => ob (wF S M8 x0 5 6 (.int (v10 + (1 : Int32)))) fun M12 => some M12 else some M3)
theorem w_X4_does {x0 : Nat} {x1 : Int32} {M' : mMm} (hF : f_X4_does S M x0 x1 = some M') : mCt l D n0 P yX4_does cX4_does 2 none 0 0 0 0 [.ref x0, .int x1] S M n none S M' n := by
  refine m_ofW (by decide) (Nat.le_of_ble_eq_true rfl) (fun p e s m below meth c X hnm hp ls hl => ?_)
  have hx := X.1.1
  have hb := X.1.2.1
  have hown := X.1.2.2.2.1
  have hts := X.1.2.2.2.2
  have hl : lv_has ls 2 [(0, .ref x0), (1, .int x1)] := hl
  unfold f_X4_does at hF
  refine lv_aload_n hx hb dX4_does_0 rfl (lv_at hl 0 rfl) ?_
  refine lv_dup hx hb dX4_does_1 rfl ?_
  obtain ⟨v1, e2, hF⟩ := ob_s hF
  refine m_getI X hp e2 kX4 (Nat.le_of_ble_eq_true rfl) q272 dX4_does_2 ?_
  refine lv_iconst (v := 1) hx hb dX4_does_5 (by decide) ?_
  refine lv_iadd hx hb dX4_does_6 ?_
  obtain ⟨M3, e4, hF⟩ := ob_s hF
  refine m_putW X hp e4 kX4 (Nat.le_of_ble_eq_true rfl) q272 rfl rfl rfl dX4_does_7 (fun H locs hp => ?_)
  refine lv_aload_n hx hb dX4_does_10 rfl (lv_at hl 0 rfl) ?_
  obtain ⟨v5, e6, hF⟩ := ob_s hF
  refine m_getI X hp e6 kX4 (Nat.le_of_ble_eq_true rfl) q272 dX4_does_11 ?_
  refine lv_iload_n hx hb dX4_does_14 rfl (lv_at hl 1 rfl) ?_
  refine lv_icmp_ge (tgt := 19) hx hb dX4_does_15 (by decide) (fun c7 => ?_) (fun c7 => ?_)
  · have hF := if_p c7 hF
    refine lv_aload_n hx hb dX4_does_19 rfl (lv_at hl 0 rfl) ?_
    refine lv_iconst (v := 0) hx hb dX4_does_20 (by decide) ?_
    obtain ⟨M8, e9, hF⟩ := ob_s hF
    refine m_putW X hp e9 kX4 (Nat.le_of_ble_eq_true rfl) q272 rfl rfl rfl dX4_does_21 (fun H locs hp => ?_)
    refine lv_aload_n hx hb dX4_does_24 rfl (lv_at hl 0 rfl) ?_
    refine lv_dup hx hb dX4_does_25 rfl ?_
    obtain ⟨v10, e11, hF⟩ := ob_s hF
    refine m_getI X hp e11 kX4 (Nat.le_of_ble_eq_true rfl) q269 dX4_does_26 ?_
    refine lv_iconst (v := 1) hx hb dX4_does_29 (by decide) ?_
    refine lv_iadd hx hb dX4_does_30 ?_
    obtain ⟨M12, e13, hF⟩ := ob_s hF
    refine m_putW X hp e13 kX4 (Nat.le_of_ble_eq_true rfl) q269 rfl rfl rfl dX4_does_31 (fun H locs hp => ?_)
    cases hF
    exact m_vret X hp dX4_does_34
  · have hF := if_n c7 hF
    cases hF
    exact m_vret X hp dX4_does_18
end
section
variable {l : Launch} {D : va_G} {n0 : Nat} {P : mP} {S : mSh} {M : mMm} {n : Nat} {p : Program} {e : Env} {s : State} {m : MethodId} {args : Array Value} {below : List Frame} {meth : Method} {c : Code}
abbrev Rm_X4_turns : Room := { frames := 0, cells := 0, slots := 0, locals := 0 }
def fb_X4_turns_47 (S : mSh) (M : mMm) (y0 : Int32) (y1 : Int32) (y2 : Nat) : Option mMm := ob (wF S M y2 5 4 (.int (y1 + y0))) fun M13 => some M13
theorem b_X4_turns_47 {M' : mMm} (X : mCx D n0 P p m c cX4_turns 4 s args yX4_turns.cls meth none) : ∀ (M : mMm) (y0 : Int32) (y1 : Int32) (y2 : Nat) (H : Heap) (locs : List Loc) (ls : Array Slot), mHp D n0 S M n s H locs → lv_has ls 4 [] → fb_X4_turns_47 S M y0 y1 y2 = some M' → W p l e Rm_X4_turns s m args below meth c H locs 0 0 (MQ below (mQ D n0 none S M' n) args s 0 0 (mA n0)) (F0 m 47 ls [.int y0, .int y1, .ref y2]) := by
  have hx := X.1.1
  have hb := X.1.2.1
  have hown := X.1.2.2.2.1
  have hts := X.1.2.2.2.2
  intro M y0 y1 y2 H locs ls hp hl hF
  unfold fb_X4_turns_47 at hF
  refine lv_iadd hx hb dX4_turns_47 ?_
  obtain ⟨M13, e14, hF⟩ := ob_s hF
  refine m_putW X hp e14 kX4 (Nat.le_of_ble_eq_true rfl) q263 rfl rfl rfl dX4_turns_48 (fun H locs hp => ?_)
  cases hF
  exact m_vret X hp dX4_turns_51
def fb_X4_turns_10 (S : mSh) (M : mMm) (x0 : Nat) (x1 : Int32) (x2 : Int32) (y0 : Int32) : Option mMm := ob (rI S M x0 5 2) fun v2 => ob (wF S M x0 5 2 (.int ((v2 + x1) - (v2 + x1) / (4 : Int32) * (4 : Int32)))) fun M4 => ob (rI S M4 x0 5 3) fun v6 => ob (wF S M4 x0 5 3 (.int (v6 + y0))) fun M8 => ob (rI S M8 x0 5 4) fun v10 => (if x2 = 0 then (fb_X4_turns_47 S M8  (0 : Int32) v10 x0) else (fb_X4_turns_47 S M8  y0 v10 x0))
theorem b_X4_turns_10 {M' : mMm} (X : mCx D n0 P p m c cX4_turns 4 s args yX4_turns.cls meth none) : ∀ (M : mMm) (x0 : Nat) (x1 : Int32) (x2 : Int32) (y0 : Int32) (H : Heap) (locs : List Loc) (ls : Array Slot), mHp D n0 S M n s H locs → lv_has ls 4 [(0, .ref x0), (1, .int x1), (2, .int x2)] → fb_X4_turns_10 S M x0 x1 x2 y0 = some M' → W p l e Rm_X4_turns s m args below meth c H locs 0 0 (MQ below (mQ D n0 none S M' n) args s 0 0 (mA n0)) (F0 m 10 ls [.int y0]) := by
  have hx := X.1.1
  have hb := X.1.2.1
  have hown := X.1.2.2.2.1
  have hts := X.1.2.2.2.2
  intro M x0 x1 x2 y0 H locs ls hp hl hF
  unfold fb_X4_turns_10 at hF
  refine lv_istore_n (lv' := [(3, .int y0), (0, .ref x0), (1, .int x1), (2, .int x2)]) hx hb dX4_turns_10 rfl hl (by decide) rfl (fun ls hl => ?_)
  refine lv_aload_n hx hb dX4_turns_11 rfl (lv_at hl 1 rfl) ?_
  refine lv_aload_n hx hb dX4_turns_12 rfl (lv_at hl 1 rfl) ?_
  obtain ⟨v2, e3, hF⟩ := ob_s hF
  refine m_getI X hp e3 kX4 (Nat.le_of_ble_eq_true rfl) q257 dX4_turns_13 ?_
  refine lv_iload_n hx hb dX4_turns_16 rfl (lv_at hl 2 rfl) ?_
  refine lv_iadd hx hb dX4_turns_17 ?_
  refine lv_iconst (v := 4) hx hb dX4_turns_18 (by decide) ?_
  refine lv_irem hx hb dX4_turns_19 (by decide) ?_
  obtain ⟨M4, e5, hF⟩ := ob_s hF
  refine m_putW X hp e5 kX4 (Nat.le_of_ble_eq_true rfl) q257 rfl rfl rfl dX4_turns_20 (fun H locs hp => ?_)
  refine lv_aload_n hx hb dX4_turns_23 rfl (lv_at hl 1 rfl) ?_
  refine lv_dup hx hb dX4_turns_24 rfl ?_
  obtain ⟨v6, e7, hF⟩ := ob_s hF
  refine m_getI X hp e7 kX4 (Nat.le_of_ble_eq_true rfl) q260 dX4_turns_25 ?_
  refine lv_iload_n hx hb dX4_turns_28 rfl (lv_at hl 0 rfl) ?_
  refine lv_iadd hx hb dX4_turns_29 ?_
  obtain ⟨M8, e9, hF⟩ := ob_s hF
  refine m_putW X hp e9 kX4 (Nat.le_of_ble_eq_true rfl) q260 rfl rfl rfl dX4_turns_30 (fun H locs hp => ?_)
  refine lv_aload_n hx hb dX4_turns_33 rfl (lv_at hl 1 rfl) ?_
  refine lv_dup hx hb dX4_turns_34 rfl ?_
  obtain ⟨v10, e11, hF⟩ := ob_s hF
  refine m_getI X hp e11 kX4 (Nat.le_of_ble_eq_true rfl) q263 dX4_turns_35 ?_
  refine lv_iload_n hx hb dX4_turns_38 rfl (lv_at hl 3 rfl) ?_
  refine lv_if_eq (tgt := 46) hx hb dX4_turns_39 (by decide) (fun c12 => ?_) (fun c12 => ?_)
  · have hF := if_p c12 hF
    refine lv_iconst (v := 0) hx hb dX4_turns_46 (by decide) ?_
    exact b_X4_turns_47 X _  _ _ _ _ _ _ hp (lv_sub hl [] rfl) hF
  · have hF := if_n c12 hF
    refine lv_iload_n hx hb dX4_turns_42 rfl (lv_at hl 0 rfl) ?_
    refine lv_goto (tgt := 47) hx hb dX4_turns_43 (by decide) ?_
    exact b_X4_turns_47 X _  _ _ _ _ _ _ hp (lv_sub hl [] rfl) hF
def f_X4_turns (S : mSh) (M : mMm) (x0 : Nat) (x1 : Int32) (x2 : Int32) : Option mMm := (if x1 = (2 : Int32) then (fb_X4_turns_10 S M x0 x1 x2 (2 : Int32)) else (fb_X4_turns_10 S M x0 x1 x2 (1 : Int32)))
theorem w_X4_turns {x0 : Nat} {x1 : Int32} {x2 : Int32} {M' : mMm} (hF : f_X4_turns S M x0 x1 x2 = some M') : mCt l D n0 P yX4_turns cX4_turns 4 none 0 0 0 0 [.ref x0, .int x1, .int x2] S M n none S M' n := by
  refine m_ofW (by decide) (Nat.le_of_ble_eq_true rfl) (fun p e s m below meth c X hnm hp ls hl => ?_)
  have hx := X.1.1
  have hb := X.1.2.1
  have hown := X.1.2.2.2.1
  have hts := X.1.2.2.2.2
  have hl : lv_has ls 4 [(0, .ref x0), (1, .int x1), (2, .int x2)] := hl
  unfold f_X4_turns at hF
  refine lv_iload_n hx hb dX4_turns_0 rfl (lv_at hl 1 rfl) ?_
  refine lv_iconst (v := 2) hx hb dX4_turns_1 (by decide) ?_
  refine lv_icmp_ne (tgt := 9) hx hb dX4_turns_2 (by decide) (fun c1 => ?_) (fun c1 => ?_)
  · have hF := if_n c1 hF
    refine lv_iconst (v := 1) hx hb dX4_turns_9 (by decide) ?_
    exact b_X4_turns_10 X _ _ _ _ _ _ _ _ hp (lv_sub hl [0, 1, 2] rfl) hF
  · have hF := if_p c1 hF
    refine lv_iconst (v := 2) hx hb dX4_turns_5 (by decide) ?_
    refine lv_goto (tgt := 10) hx hb dX4_turns_6 (by decide) ?_
    exact b_X4_turns_10 X _ _ _ _ _ _ _ _ hp (lv_sub hl [0, 1, 2] rfl) hF
end
section
variable {l : Launch} {D : va_G} {n0 : Nat} {P : mP} {S : mSh} {M : mMm} {n : Nat} {p : Program} {e : Env} {s : State} {m : MethodId} {args : Array Value} {below : List Frame} {meth : Method} {c : Code}
abbrev Rm_X1_turns : Room := { frames := 1, cells := 0, slots := 0, locals := 24 }
def fb_X1_turns_30 (S : mSh) (M : mMm) (x0 : Nat) (x1 : Int32) (y0 : Int32) (y1 : Int32) (y2 : Nat) : Option mMm := gd ((S y2).1 = 5) (ob (f_X4_turns S M y2 y1 y0) fun M19 => ob (rR S M19 x0 2 1) fun v20 => ob (aR S M19 v20 104 x1) fun v22 => ob (rI S M19 v22 5 1) fun v24 => ob (f_X1_notes S M19 x0 (1 : Int32) x1 v24) fun M28 => some M28)
theorem b_X1_turns_30 {M' : mMm} (X : mCx D n0 P p m c cX1_turns 3 s args yX1_turns.cls meth none) : ∀ (M : mMm) (x0 : Nat) (x1 : Int32) (y0 : Int32) (y1 : Int32) (y2 : Nat) (H : Heap) (locs : List Loc) (ls : Array Slot), mHp D n0 S M n s H locs → lv_has ls 3 [(0, .ref x0), (1, .int x1)] → fb_X1_turns_30 S M x0 x1 y0 y1 y2 = some M' → W p l e Rm_X1_turns s m args below meth c H locs 0 0 (MQ below (mQ D n0 none S M' n) args s 0 0 (mA n0)) (F0 m 30 ls [.int y0, .int y1, .ref y2]) := by
  have hx := X.1.1
  have hb := X.1.2.1
  have hown := X.1.2.2.2.1
  have hts := X.1.2.2.2.2
  intro M x0 x1 y0 y1 y2 H locs ls hp hl hF
  unfold fb_X1_turns_30 at hF
  obtain ⟨g16, hF⟩ := gd_s hF
  obtain ⟨M19, e17, hF⟩ := ob_s hF
  refine m_callV (As := [.int y1, .int y0]) (rest := []) X hp (w_X4_turns e17) q1060 q1061 q1062 q139 q1063 2 rfl ds_X4_turns ⟨Nat.le_of_ble_eq_true rfl, Nat.le_of_ble_eq_true rfl⟩ 5 (T := TX4) (N := 11) rfl (by decide) g16 hl.1 rfl (Nat.le_of_ble_eq_true rfl) dX1_turns_30 ⟨Nat.le_refl 0, Nat.le_refl 0⟩ (fun H locs hp => ?_)
  refine lv_aload_n hx hb dX1_turns_33 rfl (lv_at hl 0 rfl) ?_
  refine lv_iconst (v := 1) hx hb dX1_turns_34 (by decide) ?_
  refine lv_iload_n hx hb dX1_turns_35 rfl (lv_at hl 1 rfl) ?_
  refine lv_aload_n hx hb dX1_turns_36 rfl (lv_at hl 0 rfl) ?_
  obtain ⟨v20, e21, hF⟩ := ob_s hF
  refine m_getR X hp e21 kX1 (Nat.le_of_ble_eq_true rfl) q377 dX1_turns_37 ?_
  refine lv_iload_n hx hb dX1_turns_40 rfl (lv_at hl 1 rfl) ?_
  obtain ⟨v22, e23, hF⟩ := ob_s hF
  refine m_aaR 104 X hp e23 rfl (by decide) rfl dX1_turns_41 ?_
  obtain ⟨v24, e25, hF⟩ := ob_s hF
  refine m_getIN X hp e25 kX4 (Nat.le_of_ble_eq_true rfl) q255 dX1_turns_42 ?_
  obtain ⟨M28, e26, hF⟩ := ob_s hF
  refine m_callV (As := [.int (1 : Int32), .int x1, .int v24]) (rest := []) X hp (w_X1_notes e26) q1044 q1046 qs32 q133 q1047 3 rfl ds_X1_notes ⟨Nat.le_of_ble_eq_true rfl, Nat.le_of_ble_eq_true rfl⟩ 2 (T := TX1) (N := 19) rfl (by decide) (rR_s e21).1 hl.1 rfl (Nat.le_of_ble_eq_true rfl) dX1_turns_45 ⟨Nat.le_refl 0, Nat.le_refl 0⟩ (fun H locs hp => ?_)
  cases hF
  exact m_vret X hp dX1_turns_48
def f_X1_turns (S : mSh) (M : mMm) (x0 : Nat) (x1 : Int32) (x2 : Int32) : Option mMm := ob (rR S M x0 2 1) fun v1 => ob (aR S M v1 104 x1) fun v3 => ob (rR S M x0 2 0) fun v5 => ob (rR S M x0 2 1) fun v7 => ob (aR S M v7 104 x1) fun v9 => ob (rI S M v9 5 1) fun v11 => ob (aI S M v5 100 v11) fun v13 => (if v13 = (3 : Int32) then (fb_X1_turns_30 S M x0 x1 (1 : Int32) x2 v3) else (fb_X1_turns_30 S M x0 x1 (0 : Int32) x2 v3))
theorem w_X1_turns {x0 : Nat} {x1 : Int32} {x2 : Int32} {M' : mMm} (hF : f_X1_turns S M x0 x1 x2 = some M') : mCt l D n0 P yX1_turns cX1_turns 3 none 1 24 0 0 [.ref x0, .int x1, .int x2] S M n none S M' n := by
  refine m_ofW (by decide) (Nat.le_of_ble_eq_true rfl) (fun p e s m below meth c X hnm hp ls hl => ?_)
  have hx := X.1.1
  have hb := X.1.2.1
  have hown := X.1.2.2.2.1
  have hts := X.1.2.2.2.2
  have hl : lv_has ls 3 [(0, .ref x0), (1, .int x1), (2, .int x2)] := hl
  unfold f_X1_turns at hF
  refine lv_aload_n hx hb dX1_turns_0 rfl (lv_at hl 0 rfl) ?_
  obtain ⟨v1, e2, hF⟩ := ob_s hF
  refine m_getR X hp e2 kX1 (Nat.le_of_ble_eq_true rfl) q377 dX1_turns_1 ?_
  refine lv_iload_n hx hb dX1_turns_4 rfl (lv_at hl 1 rfl) ?_
  obtain ⟨v3, e4, hF⟩ := ob_s hF
  refine m_aaR 104 X hp e4 rfl (by decide) rfl dX1_turns_5 ?_
  refine lv_iload_n hx hb dX1_turns_6 rfl (lv_at hl 2 rfl) ?_
  refine lv_aload_n hx hb dX1_turns_7 rfl (lv_at hl 0 rfl) ?_
  obtain ⟨v5, e6, hF⟩ := ob_s hF
  refine m_getR X hp e6 kX1 (Nat.le_of_ble_eq_true rfl) q375 dX1_turns_8 ?_
  refine lv_aload_n hx hb dX1_turns_11 rfl (lv_at hl 0 rfl) ?_
  obtain ⟨v7, e8, hF⟩ := ob_s hF
  refine m_getR X hp e8 kX1 (Nat.le_of_ble_eq_true rfl) q377 dX1_turns_12 ?_
  refine lv_iload_n hx hb dX1_turns_15 rfl (lv_at hl 1 rfl) ?_
  obtain ⟨v9, e10, hF⟩ := ob_s hF
  refine m_aaR 104 X hp e10 rfl (by decide) rfl dX1_turns_16 ?_
  obtain ⟨v11, e12, hF⟩ := ob_s hF
  refine m_getIN X hp e12 kX4 (Nat.le_of_ble_eq_true rfl) q255 dX1_turns_17 ?_
  obtain ⟨v13, e14, hF⟩ := ob_s hF
  refine m_iaI X hp e14 dX1_turns_20 ?_
  refine lv_iconst (v := 3) hx hb dX1_turns_21 (by decide) ?_
  refine lv_icmp_ne (tgt := 29) hx hb dX1_turns_22 (by decide) (fun c15 => ?_) (fun c15 => ?_)
  · have hF := if_n c15 hF
    refine lv_iconst (v := 0) hx hb dX1_turns_29 (by decide) ?_
    exact b_X1_turns_30 X _ _ _ _ _ _ _ _ _ hp (lv_sub hl [0, 1] rfl) hF
  · have hF := if_p c15 hF
    refine lv_iconst (v := 1) hx hb dX1_turns_25 (by decide) ?_
    refine lv_goto (tgt := 30) hx hb dX1_turns_26 (by decide) ?_
    exact b_X1_turns_30 X _ _ _ _ _ _ _ _ _ hp (lv_sub hl [0, 1] rfl) hF
end
section
variable {l : Launch} {D : va_G} {n0 : Nat} {P : mP} {S : mSh} {M : mMm} {n : Nat} {p : Program} {e : Env} {s : State} {m : MethodId} {args : Array Value} {below : List Frame} {meth : Method} {c : Code}
abbrev Rm_X9_of (frr lor : Nat) : Room := { frames := frr + 1, cells := 0, slots := 0, locals := lor + 23 }
def fo_X9_of (S : mSh) (M : mMm) (rec : Nat → Nat → Option Int32) (x0 : Nat) (x1 : Nat) : Option Int32 := ob (rI S M x0 9 0) fun v1 => some v1
theorem wo_X9_of {x0 : Nat} {x1 : Nat} {r : Int32} {frr lor : Nat} {rec : Nat → Nat → Option Int32} (hrec : ∀ {a b : Nat} {r : Int32}, rec a b = some r → mTt l D n0 P S M n frr lor a b r) (hfl : 5 ≤ frr ∧ 108 ≤ lor) (hF : fo_X9_of S M rec x0 x1 = some r) : mCt l D n0 P yX9_of cX9_of 2 (some .int) (frr + 1) (lor + 23) 0 0 [.ref x0, .ref x1] S M n (some (.int r)) S M n := by
  refine m_ofW (by decide) (Nat.le_of_ble_eq_true rfl) (fun p e s m below meth c X hnm hp ls hl => ?_)
  have hx := X.1.1
  have hb := X.1.2.1
  have hown := X.1.2.2.2.1
  have hts := X.1.2.2.2.2
  have hl : lv_has ls 2 [(0, .ref x0), (1, .ref x1)] := hl
  unfold fo_X9_of at hF
  refine lv_aload_n hx hb dX9_of_0 rfl (lv_at hl 0 rfl) ?_
  obtain ⟨v1, e2, hF⟩ := ob_s hF
  refine m_getI X hp e2 kX9 (Nat.le_of_ble_eq_true rfl) q836 dX9_of_1 ?_
  cases hF
  exact m_iret X hp dX9_of_4
end
section
variable {l : Launch} {D : va_G} {n0 : Nat} {P : mP} {S : mSh} {M : mMm} {n : Nat} {p : Program} {e : Env} {s : State} {m : MethodId} {args : Array Value} {below : List Frame} {meth : Method} {c : Code}
abbrev Rm_X1_inside : Room := { frames := 1, cells := 0, slots := 0, locals := 20 }
def fb_X1_inside_32 (S : mSh) (M : mMm) (k4 : Nat → Int32 → Int32 → Option Int32) (x0 : Nat) (x2 : Int32) (y0 : Int32) (y1 : Int32) : Option Int32 := nm ((y1 ||| y0)) fun v16 => nm (x2 + (1 : Int32)) fun v18 => (k4 x0 v16 v18)
theorem b_X1_inside_32 {r : Int32} (X : mCx D n0 P p m c cX1_inside 3 s args yX1_inside.cls meth (some .int)) (k4 : Nat → Int32 → Int32 → Option Int32) (hk4 : ∀ (x0 : Nat) (x1 : Int32) (x2 : Int32) (H : Heap) (locs : List Loc) (ls : Array Slot), mHp D n0 S M n s H locs → lv_has ls 3 [(0, .ref x0), (1, .int x1), (2, .int x2)] → k4 x0 x1 x2 = some r → W p l e Rm_X1_inside s m args below meth c H locs 0 0 (MQ below (mQ D n0 (some (.int r)) S M n) args s 0 0 (mA n0)) (F0 m 4 ls [])) : ∀ (x0 : Nat) (x2 : Int32) (y0 : Int32) (y1 : Int32) (H : Heap) (locs : List Loc) (ls : Array Slot), mHp D n0 S M n s H locs → lv_has ls 3 [(0, .ref x0), (2, .int x2)] → fb_X1_inside_32 S M k4 x0 x2 y0 y1 = some r → W p l e Rm_X1_inside s m args below meth c H locs 0 0 (MQ below (mQ D n0 (some (.int r)) S M n) args s 0 0 (mA n0)) (F0 m 32 ls [.int y0, .int y1]) := by
  have hx := X.1.1
  have hb := X.1.2.1
  have hown := X.1.2.2.2.1
  have hts := X.1.2.2.2.2
  intro x0 x2 y0 y1 H locs ls hp hl hF
  unfold fb_X1_inside_32 at hF
  refine lv_ior hx hb dX1_inside_32 ?_
  refine lv_topi (fun v16 ev17 => ?_)
  have hF := nm_s hF ev17
  refine lv_istore_n (lv' := [(1, .int v16), (0, .ref x0), (2, .int x2)]) hx hb dX1_inside_33 rfl hl (by decide) rfl (fun ls hl => ?_)
  obtain ⟨v18, ev19⟩ : ∃ y : Int32, y = x2 + (1 : Int32) := ⟨_, rfl⟩
  have hF := nm_s hF ev19
  refine lv_iinc (v := v18) (lv' := [(2, .int v18), (1, .int v16), (0, .ref x0)]) hx hb dX1_inside_34 hl (k := 2) rfl (by rw [ev19]; rfl) (by decide) rfl (fun ls hl => ?_)
  refine lv_goto (tgt := 4) hx hb dX1_inside_37 (by decide) ?_
  exact hk4 _ _ _ _ _ _ hp (lv_sub hl [2, 1, 0] rfl) hF
def fb_X1_inside_4 (S : mSh) (M : mMm) : Nat → Nat → Int32 → Int32 → Option Int32
  | 0, _, _, _ => none
  | t + 1, x0, x1, x2 => ob (rI S M x0 2 10) fun v5 => (if v5 ≤ x2 then some x1 else ob (rR S M x0 2 1) fun v8 => ob (aR S M v8 104 x2) fun v10 => gd ((S v10).1 = 5) (ob (f_X4_isIn S M v10) fun v14 => (if v14 = 0 then (fb_X1_inside_32 S M (fb_X1_inside_4 S M t) x0 x2 (0 : Int32) x1) else (fb_X1_inside_32 S M (fb_X1_inside_4 S M t) x0 x2 ((1 : Int32) <<< (x2 &&& 31)) x1))))
theorem b_X1_inside_4 {r : Int32} (X : mCx D n0 P p m c cX1_inside 3 s args yX1_inside.cls meth (some .int)) : ∀ t : Nat, ∀ (x0 : Nat) (x1 : Int32) (x2 : Int32) (H : Heap) (locs : List Loc) (ls : Array Slot), mHp D n0 S M n s H locs → lv_has ls 3 [(0, .ref x0), (1, .int x1), (2, .int x2)] → fb_X1_inside_4 S M t x0 x1 x2 = some r → W p l e Rm_X1_inside s m args below meth c H locs 0 0 (MQ below (mQ D n0 (some (.int r)) S M n) args s 0 0 (mA n0)) (F0 m 4 ls []) := by
  have hx := X.1.1
  have hb := X.1.2.1
  have hown := X.1.2.2.2.1
  have hts := X.1.2.2.2.2
  intro t
  induction t with
  | zero =>
    intro x0 x1 x2 H locs ls hp hl hF
    have hF : none = some r := hF
    cases hF
  | succ t ih =>
    intro x0 x1 x2 H locs ls hp hl hF
    rw [fb_X1_inside_4] at hF
    refine lv_iload_n hx hb dX1_inside_4 rfl (lv_at hl 2 rfl) ?_
    refine lv_aload_n hx hb dX1_inside_5 rfl (lv_at hl 0 rfl) ?_
    obtain ⟨v5, e6, hF⟩ := ob_s hF
    refine m_getI X hp e6 kX1 (Nat.le_of_ble_eq_true rfl) q395 dX1_inside_6 ?_
    refine lv_icmp_ge (tgt := 40) hx hb dX1_inside_9 (by decide) (fun c7 => ?_) (fun c7 => ?_)
    · have hF := if_p c7 hF
      refine lv_iload_n hx hb dX1_inside_40 rfl (lv_at hl 1 rfl) ?_
      cases hF
      exact m_iret X hp dX1_inside_41
    · have hF := if_n c7 hF
      refine lv_iload_n hx hb dX1_inside_12 rfl (lv_at hl 1 rfl) ?_
      refine lv_aload_n hx hb dX1_inside_13 rfl (lv_at hl 0 rfl) ?_
      obtain ⟨v8, e9, hF⟩ := ob_s hF
      refine m_getR X hp e9 kX1 (Nat.le_of_ble_eq_true rfl) q377 dX1_inside_14 ?_
      refine lv_iload_n hx hb dX1_inside_17 rfl (lv_at hl 2 rfl) ?_
      obtain ⟨v10, e11, hF⟩ := ob_s hF
      refine m_aaR 104 X hp e11 rfl (by decide) rfl dX1_inside_18 ?_
      obtain ⟨g12, hF⟩ := gd_s hF
      obtain ⟨v14, e13, hF⟩ := ob_s hF
      refine m_callV (As := []) (rest := [.int x1]) X hp (w_X4_isIn e13) q931 q932 q933 q139 q934 0 rfl ds_X4_isIn ⟨Nat.le_of_ble_eq_true rfl, Nat.le_of_ble_eq_true rfl⟩ 5 (T := TX4) (N := 11) rfl (by decide) g12 hl.1 rfl (Nat.le_of_ble_eq_true rfl) dX1_inside_19 ⟨Nat.le_refl 0, Nat.le_refl 0⟩ (fun H locs hp => ?_)
      refine lv_if_eq (tgt := 31) hx hb dX1_inside_22 (by decide) (fun c15 => ?_) (fun c15 => ?_)
      · have hF := if_p c15 hF
        refine lv_iconst (v := 0) hx hb dX1_inside_31 (by decide) ?_
        exact b_X1_inside_32 X _ ih _ _ _ _ _ _ _ hp (lv_sub hl [0, 2] rfl) hF
      · have hF := if_n c15 hF
        refine lv_iconst (v := 1) hx hb dX1_inside_25 (by decide) ?_
        refine lv_iload_n hx hb dX1_inside_26 rfl (lv_at hl 2 rfl) ?_
        refine lv_ishl hx hb dX1_inside_27 ?_
        refine lv_goto (tgt := 32) hx hb dX1_inside_28 (by decide) ?_
        exact b_X1_inside_32 X _ ih _ _ _ _ _ _ _ hp (lv_sub hl [0, 2] rfl) hF
def f_X1_inside (S : mSh) (M : mMm) (x0 : Nat) : Option Int32 := nm ((0 : Int32)) fun v1 => nm ((0 : Int32)) fun v3 => (fb_X1_inside_4 S M FU x0 v1 v3)
theorem w_X1_inside {x0 : Nat} {r : Int32} (hF : f_X1_inside S M x0 = some r) : mCt l D n0 P yX1_inside cX1_inside 3 (some .int) 1 20 0 0 [.ref x0] S M n (some (.int r)) S M n := by
  refine m_ofW (by decide) (Nat.le_of_ble_eq_true rfl) (fun p e s m below meth c X hnm hp ls hl => ?_)
  have hx := X.1.1
  have hb := X.1.2.1
  have hown := X.1.2.2.2.1
  have hts := X.1.2.2.2.2
  have hl : lv_has ls 3 [(0, .ref x0)] := hl
  unfold f_X1_inside at hF
  refine lv_iconst (v := 0) hx hb dX1_inside_0 (by decide) ?_
  refine lv_topi (fun v1 ev2 => ?_)
  have hF := nm_s hF ev2
  refine lv_istore_n (lv' := [(1, .int v1), (0, .ref x0)]) hx hb dX1_inside_1 rfl hl (by decide) rfl (fun ls hl => ?_)
  refine lv_iconst (v := 0) hx hb dX1_inside_2 (by decide) ?_
  refine lv_topi (fun v3 ev4 => ?_)
  have hF := nm_s hF ev4
  refine lv_istore_n (lv' := [(2, .int v3), (1, .int v1), (0, .ref x0)]) hx hb dX1_inside_3 rfl hl (by decide) rfl (fun ls hl => ?_)
  exact b_X1_inside_4 X _ _ _ _ _ _ _ hp (lv_sub hl [2, 1, 0] rfl) hF
end
section
variable {l : Launch} {D : va_G} {n0 : Nat} {P : mP} {S : mSh} {M : mMm} {n : Nat} {p : Program} {e : Env} {s : State} {m : MethodId} {args : Array Value} {below : List Frame} {meth : Method} {c : Code}
abbrev Rm_X1_watched : Room := { frames := 3, cells := 0, slots := 0, locals := 64 }
def fb_X1_watched_54 (S : mSh) (M : mMm) (k4 : Nat → Int32 → Int32 → Option Int32) (x0 : Nat) (x2 : Int32) (y0 : Int32) : Option Int32 := nm (x2 + (1 : Int32)) fun v30 => (k4 x0 y0 v30)
theorem b_X1_watched_54 {r : Int32} (X : mCx D n0 P p m c cX1_watched 3 s args yX1_watched.cls meth (some .int)) (k4 : Nat → Int32 → Int32 → Option Int32) (hk4 : ∀ (x0 : Nat) (x1 : Int32) (x2 : Int32) (H : Heap) (locs : List Loc) (ls : Array Slot), mHp D n0 S M n s H locs → lv_has ls 3 [(0, .ref x0), (1, .int x1), (2, .int x2)] → k4 x0 x1 x2 = some r → W p l e Rm_X1_watched s m args below meth c H locs 0 0 (MQ below (mQ D n0 (some (.int r)) S M n) args s 0 0 (mA n0)) (F0 m 4 ls [])) : ∀ (x0 : Nat) (x2 : Int32) (y0 : Int32) (H : Heap) (locs : List Loc) (ls : Array Slot), mHp D n0 S M n s H locs → lv_has ls 3 [(0, .ref x0), (2, .int x2)] → fb_X1_watched_54 S M k4 x0 x2 y0 = some r → W p l e Rm_X1_watched s m args below meth c H locs 0 0 (MQ below (mQ D n0 (some (.int r)) S M n) args s 0 0 (mA n0)) (F0 m 54 ls [.int y0]) := by
  have hx := X.1.1
  have hb := X.1.2.1
  have hown := X.1.2.2.2.1
  have hts := X.1.2.2.2.2
  intro x0 x2 y0 H locs ls hp hl hF
  unfold fb_X1_watched_54 at hF
  refine lv_istore_n (lv' := [(1, .int y0), (0, .ref x0), (2, .int x2)]) hx hb dX1_watched_54 rfl hl (by decide) rfl (fun ls hl => ?_)
  obtain ⟨v30, ev31⟩ : ∃ y : Int32, y = x2 + (1 : Int32) := ⟨_, rfl⟩
  have hF := nm_s hF ev31
  refine lv_iinc (v := v30) (lv' := [(2, .int v30), (1, .int y0), (0, .ref x0)]) hx hb dX1_watched_55 hl (k := 2) rfl (by rw [ev31]; rfl) (by decide) rfl (fun ls hl => ?_)
  refine lv_goto (tgt := 4) hx hb dX1_watched_58 (by decide) ?_
  exact hk4 _ _ _ _ _ _ hp (lv_sub hl [2, 1, 0] rfl) hF
def fb_X1_watched_4 (S : mSh) (M : mMm) : Nat → Nat → Int32 → Int32 → Option Int32
  | 0, _, _, _ => none
  | t + 1, x0, x1, x2 => ob (rR S M x0 2 9) fun v5 => gd ((S v5).1 = 15) (ob (f_J2_size S M v5) fun v9 => (if v9 ≤ x2 then some x1 else ob (rR S M x0 2 9) fun v11 => gd ((S v11).1 = 15) (ob (f_J2_get S M v11 x2) fun v15 => gd ((S v15).1 = 14) (ob (rI S M v15 14 0) fun v17 => ob (rI S M x0 2 11) fun v19 => (if v19 < v17 then (fb_X1_watched_54 S M (fb_X1_watched_4 S M t) x0 x2 x1) else ob (rR S M x0 2 9) fun v22 => gd ((S v22).1 = 15) (ob (f_J2_get S M v22 x2) fun v26 => gd ((S v26).1 = 14) (ob (rI S M v26 14 1) fun v28 => (fb_X1_watched_54 S M (fb_X1_watched_4 S M t) x0 x2 v28))))))))
theorem b_X1_watched_4 {r : Int32} (X : mCx D n0 P p m c cX1_watched 3 s args yX1_watched.cls meth (some .int)) : ∀ t : Nat, ∀ (x0 : Nat) (x1 : Int32) (x2 : Int32) (H : Heap) (locs : List Loc) (ls : Array Slot), mHp D n0 S M n s H locs → lv_has ls 3 [(0, .ref x0), (1, .int x1), (2, .int x2)] → fb_X1_watched_4 S M t x0 x1 x2 = some r → W p l e Rm_X1_watched s m args below meth c H locs 0 0 (MQ below (mQ D n0 (some (.int r)) S M n) args s 0 0 (mA n0)) (F0 m 4 ls []) := by
  have hx := X.1.1
  have hb := X.1.2.1
  have hown := X.1.2.2.2.1
  have hts := X.1.2.2.2.2
  intro t
  induction t with
  | zero =>
    intro x0 x1 x2 H locs ls hp hl hF
    have hF : none = some r := hF
    cases hF
  | succ t ih =>
    intro x0 x1 x2 H locs ls hp hl hF
    rw [fb_X1_watched_4] at hF
    refine lv_iload_n hx hb dX1_watched_4 rfl (lv_at hl 2 rfl) ?_
    refine lv_aload_n hx hb dX1_watched_5 rfl (lv_at hl 0 rfl) ?_
    obtain ⟨v5, e6, hF⟩ := ob_s hF
    refine m_getR X hp e6 kX1 (Nat.le_of_ble_eq_true rfl) q393 dX1_watched_6 ?_
    obtain ⟨g7, hF⟩ := gd_s hF
    obtain ⟨v9, e8, hF⟩ := ob_s hF
    refine m_callV (As := []) (rest := [.int x2]) X hp (w_J2_size e8) q1092 q808 q809 q138 q810 0 rfl ds_J2_size ⟨Nat.le_of_ble_eq_true rfl, Nat.le_of_ble_eq_true rfl⟩ 15 (T := TJ2) (N := 3) rfl (by decide) g7 hl.1 rfl (Nat.le_of_ble_eq_true rfl) dX1_watched_9 ⟨Nat.le_refl 0, Nat.le_refl 0⟩ (fun H locs hp => ?_)
    refine lv_icmp_ge (tgt := 61) hx hb dX1_watched_12 (by decide) (fun c10 => ?_) (fun c10 => ?_)
    · have hF := if_p c10 hF
      refine lv_iload_n hx hb dX1_watched_61 rfl (lv_at hl 1 rfl) ?_
      cases hF
      exact m_iret X hp dX1_watched_62
    · have hF := if_n c10 hF
      refine lv_aload_n hx hb dX1_watched_15 rfl (lv_at hl 0 rfl) ?_
      obtain ⟨v11, e12, hF⟩ := ob_s hF
      refine m_getR X hp e12 kX1 (Nat.le_of_ble_eq_true rfl) q393 dX1_watched_16 ?_
      refine lv_iload_n hx hb dX1_watched_19 rfl (lv_at hl 2 rfl) ?_
      obtain ⟨g13, hF⟩ := gd_s hF
      obtain ⟨v15, e14, hF⟩ := ob_s hF
      refine m_callV (As := [.int x2]) (rest := []) X hp (w_J2_get e14) q1088 q1089 q1090 q138 q1091 1 rfl ds_J2_get ⟨Nat.le_of_ble_eq_true rfl, Nat.le_of_ble_eq_true rfl⟩ 15 (T := TJ2) (N := 3) rfl (by decide) g13 hl.1 rfl (Nat.le_of_ble_eq_true rfl) dX1_watched_20 ⟨Nat.le_refl 0, Nat.le_refl 0⟩ (fun H locs hp => ?_)
      obtain ⟨g16, hF⟩ := gd_s hF
      refine m_cast X hp kX14 g16 q1160 dX1_watched_23 ?_
      obtain ⟨v17, e18, hF⟩ := ob_s hF
      refine m_getIN X hp e18 kX14 (Nat.le_of_ble_eq_true rfl) q973 dX1_watched_26 ?_
      refine lv_aload_n hx hb dX1_watched_29 rfl (lv_at hl 0 rfl) ?_
      obtain ⟨v19, e20, hF⟩ := ob_s hF
      refine m_getI X hp e20 kX1 (Nat.le_of_ble_eq_true rfl) q398 dX1_watched_30 ?_
      refine lv_icmp_gt (tgt := 53) hx hb dX1_watched_33 (by decide) (fun c21 => ?_) (fun c21 => ?_)
      · have hF := if_p c21 hF
        refine lv_iload_n hx hb dX1_watched_53 rfl (lv_at hl 1 rfl) ?_
        exact b_X1_watched_54 X _ ih _ _ _ _ _ _ hp (lv_sub hl [0, 2] rfl) hF
      · have hF := if_n c21 hF
        refine lv_aload_n hx hb dX1_watched_36 rfl (lv_at hl 0 rfl) ?_
        obtain ⟨v22, e23, hF⟩ := ob_s hF
        refine m_getR X hp e23 kX1 (Nat.le_of_ble_eq_true rfl) q393 dX1_watched_37 ?_
        refine lv_iload_n hx hb dX1_watched_40 rfl (lv_at hl 2 rfl) ?_
        obtain ⟨g24, hF⟩ := gd_s hF
        obtain ⟨v26, e25, hF⟩ := ob_s hF
        refine m_callV (As := [.int x2]) (rest := []) X hp (w_J2_get e25) q1088 q1089 q1090 q138 q1091 1 rfl ds_J2_get ⟨Nat.le_of_ble_eq_true rfl, Nat.le_of_ble_eq_true rfl⟩ 15 (T := TJ2) (N := 3) rfl (by decide) g24 hl.1 rfl (Nat.le_of_ble_eq_true rfl) dX1_watched_41 ⟨Nat.le_refl 0, Nat.le_refl 0⟩ (fun H locs hp => ?_)
        obtain ⟨g27, hF⟩ := gd_s hF
        refine m_cast X hp kX14 g27 q1160 dX1_watched_44 ?_
        obtain ⟨v28, e29, hF⟩ := ob_s hF
        refine m_getIN X hp e29 kX14 (Nat.le_of_ble_eq_true rfl) q975 dX1_watched_47 ?_
        refine lv_goto (tgt := 54) hx hb dX1_watched_50 (by decide) ?_
        exact b_X1_watched_54 X _ ih _ _ _ _ _ _ hp (lv_sub hl [0, 2] rfl) hF
def f_X1_watched (S : mSh) (M : mMm) (x0 : Nat) : Option Int32 := nm ((0 : Int32)) fun v1 => nm ((0 : Int32)) fun v3 => (fb_X1_watched_4 S M FU x0 v1 v3)
theorem w_X1_watched {x0 : Nat} {r : Int32} (hF : f_X1_watched S M x0 = some r) : mCt l D n0 P yX1_watched cX1_watched 3 (some .int) 3 64 0 0 [.ref x0] S M n (some (.int r)) S M n := by
  refine m_ofW (by decide) (Nat.le_of_ble_eq_true rfl) (fun p e s m below meth c X hnm hp ls hl => ?_)
  have hx := X.1.1
  have hb := X.1.2.1
  have hown := X.1.2.2.2.1
  have hts := X.1.2.2.2.2
  have hl : lv_has ls 3 [(0, .ref x0)] := hl
  unfold f_X1_watched at hF
  refine lv_iconst (v := 0) hx hb dX1_watched_0 (by decide) ?_
  refine lv_topi (fun v1 ev2 => ?_)
  have hF := nm_s hF ev2
  refine lv_istore_n (lv' := [(1, .int v1), (0, .ref x0)]) hx hb dX1_watched_1 rfl hl (by decide) rfl (fun ls hl => ?_)
  refine lv_iconst (v := 0) hx hb dX1_watched_2 (by decide) ?_
  refine lv_topi (fun v3 ev4 => ?_)
  have hF := nm_s hF ev4
  refine lv_istore_n (lv' := [(2, .int v3), (1, .int v1), (0, .ref x0)]) hx hb dX1_watched_3 rfl hl (by decide) rfl (fun ls hl => ?_)
  exact b_X1_watched_4 X _ _ _ _ _ _ _ hp (lv_sub hl [2, 1, 0] rfl) hF
end
section
variable {l : Launch} {D : va_G} {n0 : Nat} {P : mP} {S : mSh} {M : mMm} {n : Nat} {p : Program} {e : Env} {s : State} {m : MethodId} {args : Array Value} {below : List Frame} {meth : Method} {c : Code}
abbrev Rm_X1_fact : Room := { frames := 4, cells := 0, slots := 0, locals := 86 }
def f_X1_fact (S : mSh) (M : mMm) (x0 : Nat) (x1 : Int32) : Option Int32 := ob (rR S M x0 2 18) fun v1 => gd ((S v1).1 = 5) (ob (f_X4_isIn S M v1) fun v5 => (if x1 = (0 : Int32) then ob (rR S M x0 2 18) fun v7 => ob (rI S M v7 5 0) fun v9 => some v9 else (if x1 = (1 : Int32) then ob (rR S M x0 2 18) fun v12 => ob (rI S M v12 5 3) fun v14 => some v14 else (if x1 = (2 : Int32) then ob (rR S M x0 2 18) fun v17 => ob (rI S M v17 5 4) fun v19 => some v19 else (if x1 = (3 : Int32) then (if v5 = 0 then some (0 : Int32) else ob (rR S M x0 2 18) fun v23 => ob (rI S M v23 5 1) fun v25 => some (v25 - v25 / (12 : Int32) * (12 : Int32))) else (if x1 = (4 : Int32) then (if v5 = 0 then some (0 : Int32) else ob (rR S M x0 2 18) fun v29 => ob (rI S M v29 5 1) fun v31 => some (v31 / (12 : Int32))) else (if x1 = (5 : Int32) then ob (rR S M x0 2 18) fun v34 => ob (rI S M v34 5 2) fun v36 => some v36 else (if x1 = (6 : Int32) then (if v5 = 0 then some (0 : Int32) else ob (rR S M x0 2 0) fun v40 => ob (rR S M x0 2 18) fun v42 => ob (rI S M v42 5 1) fun v44 => ob (aI S M v40 100 v44) fun v46 => (if v46 = (2 : Int32) then some (1 : Int32) else some (0 : Int32))) else (if x1 = (7 : Int32) then ob (f_X1_inside S M x0) fun v51 => ob (f_J8_bitCount v51) fun v53 => some v53 else (if x1 = (8 : Int32) then ob (f_X1_watched S M x0) fun v56 => some v56 else ob (rI S M x0 2 11) fun v57 => some v57))))))))))
theorem w_X1_fact {x0 : Nat} {x1 : Int32} {r : Int32} (hF : f_X1_fact S M x0 x1 = some r) : mCt l D n0 P yX1_fact cX1_fact 3 (some .int) 4 86 0 0 [.ref x0, .int x1] S M n (some (.int r)) S M n := by
  refine m_ofW (by decide) (Nat.le_of_ble_eq_true rfl) (fun p e s m below meth c X hnm hp ls hl => ?_)
  have hx := X.1.1
  have hb := X.1.2.1
  have hown := X.1.2.2.2.1
  have hts := X.1.2.2.2.2
  have hl : lv_has ls 3 [(0, .ref x0), (1, .int x1)] := hl
  unfold f_X1_fact at hF
  refine lv_aload_n hx hb dX1_fact_0 rfl (lv_at hl 0 rfl) ?_
  obtain ⟨v1, e2, hF⟩ := ob_s hF
  refine m_getR X hp e2 kX1 (Nat.le_of_ble_eq_true rfl) q412 dX1_fact_1 ?_
  obtain ⟨g3, hF⟩ := gd_s hF
  obtain ⟨v5, e4, hF⟩ := ob_s hF
  refine m_callV (As := []) (rest := []) X hp (w_X4_isIn e4) q931 q932 q933 q139 q934 0 rfl ds_X4_isIn ⟨Nat.le_of_ble_eq_true rfl, Nat.le_of_ble_eq_true rfl⟩ 5 (T := TX4) (N := 11) rfl (by decide) g3 hl.1 rfl (Nat.le_of_ble_eq_true rfl) dX1_fact_4 ⟨Nat.le_refl 0, Nat.le_refl 0⟩ (fun H locs hp => ?_)
  refine lv_istore_n (lv' := [(2, .int v5), (0, .ref x0), (1, .int x1)]) hx hb dX1_fact_7 rfl hl (by decide) rfl (fun ls hl => ?_)
  refine lv_iload_n hx hb dX1_fact_8 rfl (lv_at hl 2 rfl) ?_
  by_cases c6 : x1 = (0 : Int32)
  · have hF := if_p c6 hF
    refine lv_tableIn (x := x1) (tgt := 60) hx hb dX1_fact_9 (by rw [c6]; decide) (by rw [c6]; decide) (by rw [c6]; rfl) (by decide) ?_
    refine lv_aload_n hx hb dX1_fact_60 rfl (lv_at hl 1 rfl) ?_
    obtain ⟨v7, e8, hF⟩ := ob_s hF
    refine m_getR X hp e8 kX1 (Nat.le_of_ble_eq_true rfl) q412 dX1_fact_61 ?_
    obtain ⟨v9, e10, hF⟩ := ob_s hF
    refine m_getIN X hp e10 kX4 (Nat.le_of_ble_eq_true rfl) q252 dX1_fact_64 ?_
    cases hF
    exact m_iret X hp dX1_fact_67
  · have hF := if_n c6 hF
    by_cases c11 : x1 = (1 : Int32)
    · have hF := if_p c11 hF
      refine lv_tableIn (x := x1) (tgt := 68) hx hb dX1_fact_9 (by rw [c11]; decide) (by rw [c11]; decide) (by rw [c11]; rfl) (by decide) ?_
      refine lv_aload_n hx hb dX1_fact_68 rfl (lv_at hl 1 rfl) ?_
      obtain ⟨v12, e13, hF⟩ := ob_s hF
      refine m_getR X hp e13 kX1 (Nat.le_of_ble_eq_true rfl) q412 dX1_fact_69 ?_
      obtain ⟨v14, e15, hF⟩ := ob_s hF
      refine m_getIN X hp e15 kX4 (Nat.le_of_ble_eq_true rfl) q261 dX1_fact_72 ?_
      cases hF
      exact m_iret X hp dX1_fact_75
    · have hF := if_n c11 hF
      by_cases c16 : x1 = (2 : Int32)
      · have hF := if_p c16 hF
        refine lv_tableIn (x := x1) (tgt := 76) hx hb dX1_fact_9 (by rw [c16]; decide) (by rw [c16]; decide) (by rw [c16]; rfl) (by decide) ?_
        refine lv_aload_n hx hb dX1_fact_76 rfl (lv_at hl 1 rfl) ?_
        obtain ⟨v17, e18, hF⟩ := ob_s hF
        refine m_getR X hp e18 kX1 (Nat.le_of_ble_eq_true rfl) q412 dX1_fact_77 ?_
        obtain ⟨v19, e20, hF⟩ := ob_s hF
        refine m_getIN X hp e20 kX4 (Nat.le_of_ble_eq_true rfl) q264 dX1_fact_80 ?_
        cases hF
        exact m_iret X hp dX1_fact_83
      · have hF := if_n c16 hF
        by_cases c21 : x1 = (3 : Int32)
        · have hF := if_p c21 hF
          refine lv_tableIn (x := x1) (tgt := 84) hx hb dX1_fact_9 (by rw [c21]; decide) (by rw [c21]; decide) (by rw [c21]; rfl) (by decide) ?_
          refine lv_iload_n hx hb dX1_fact_84 rfl (lv_at hl 0 rfl) ?_
          refine lv_if_eq (tgt := 101) hx hb dX1_fact_85 (by decide) (fun c22 => ?_) (fun c22 => ?_)
          · have hF := if_p c22 hF
            refine lv_iconst (v := 0) hx hb dX1_fact_101 (by decide) ?_
            cases hF
            exact m_iret X hp dX1_fact_102
          · have hF := if_n c22 hF
            refine lv_aload_n hx hb dX1_fact_88 rfl (lv_at hl 1 rfl) ?_
            obtain ⟨v23, e24, hF⟩ := ob_s hF
            refine m_getR X hp e24 kX1 (Nat.le_of_ble_eq_true rfl) q412 dX1_fact_89 ?_
            obtain ⟨v25, e26, hF⟩ := ob_s hF
            refine m_getIN X hp e26 kX4 (Nat.le_of_ble_eq_true rfl) q255 dX1_fact_92 ?_
            refine lv_bipush (v := 12) hx hb dX1_fact_95 (by decide) ?_
            refine lv_irem hx hb dX1_fact_97 (by decide) ?_
            refine lv_goto (tgt := 102) hx hb dX1_fact_98 (by decide) ?_
            cases hF
            exact m_iret X hp dX1_fact_102
        · have hF := if_n c21 hF
          by_cases c27 : x1 = (4 : Int32)
          · have hF := if_p c27 hF
            refine lv_tableIn (x := x1) (tgt := 103) hx hb dX1_fact_9 (by rw [c27]; decide) (by rw [c27]; decide) (by rw [c27]; rfl) (by decide) ?_
            refine lv_iload_n hx hb dX1_fact_103 rfl (lv_at hl 0 rfl) ?_
            refine lv_if_eq (tgt := 120) hx hb dX1_fact_104 (by decide) (fun c28 => ?_) (fun c28 => ?_)
            · have hF := if_p c28 hF
              refine lv_iconst (v := 0) hx hb dX1_fact_120 (by decide) ?_
              cases hF
              exact m_iret X hp dX1_fact_121
            · have hF := if_n c28 hF
              refine lv_aload_n hx hb dX1_fact_107 rfl (lv_at hl 1 rfl) ?_
              obtain ⟨v29, e30, hF⟩ := ob_s hF
              refine m_getR X hp e30 kX1 (Nat.le_of_ble_eq_true rfl) q412 dX1_fact_108 ?_
              obtain ⟨v31, e32, hF⟩ := ob_s hF
              refine m_getIN X hp e32 kX4 (Nat.le_of_ble_eq_true rfl) q255 dX1_fact_111 ?_
              refine lv_bipush (v := 12) hx hb dX1_fact_114 (by decide) ?_
              refine lv_idiv hx hb dX1_fact_116 (by decide) ?_
              refine lv_goto (tgt := 121) hx hb dX1_fact_117 (by decide) ?_
              cases hF
              exact m_iret X hp dX1_fact_121
          · have hF := if_n c27 hF
            by_cases c33 : x1 = (5 : Int32)
            · have hF := if_p c33 hF
              refine lv_tableIn (x := x1) (tgt := 122) hx hb dX1_fact_9 (by rw [c33]; decide) (by rw [c33]; decide) (by rw [c33]; rfl) (by decide) ?_
              refine lv_aload_n hx hb dX1_fact_122 rfl (lv_at hl 1 rfl) ?_
              obtain ⟨v34, e35, hF⟩ := ob_s hF
              refine m_getR X hp e35 kX1 (Nat.le_of_ble_eq_true rfl) q412 dX1_fact_123 ?_
              obtain ⟨v36, e37, hF⟩ := ob_s hF
              refine m_getIN X hp e37 kX4 (Nat.le_of_ble_eq_true rfl) q258 dX1_fact_126 ?_
              cases hF
              exact m_iret X hp dX1_fact_129
            · have hF := if_n c33 hF
              by_cases c38 : x1 = (6 : Int32)
              · have hF := if_p c38 hF
                refine lv_tableIn (x := x1) (tgt := 130) hx hb dX1_fact_9 (by rw [c38]; decide) (by rw [c38]; decide) (by rw [c38]; rfl) (by decide) ?_
                refine lv_iload_n hx hb dX1_fact_130 rfl (lv_at hl 0 rfl) ?_
                refine lv_if_eq (tgt := 154) hx hb dX1_fact_131 (by decide) (fun c39 => ?_) (fun c39 => ?_)
                · have hF := if_p c39 hF
                  refine lv_iconst (v := 0) hx hb dX1_fact_154 (by decide) ?_
                  cases hF
                  exact m_iret X hp dX1_fact_155
                · have hF := if_n c39 hF
                  refine lv_aload_n hx hb dX1_fact_134 rfl (lv_at hl 1 rfl) ?_
                  obtain ⟨v40, e41, hF⟩ := ob_s hF
                  refine m_getR X hp e41 kX1 (Nat.le_of_ble_eq_true rfl) q375 dX1_fact_135 ?_
                  refine lv_aload_n hx hb dX1_fact_138 rfl (lv_at hl 1 rfl) ?_
                  obtain ⟨v42, e43, hF⟩ := ob_s hF
                  refine m_getR X hp e43 kX1 (Nat.le_of_ble_eq_true rfl) q412 dX1_fact_139 ?_
                  obtain ⟨v44, e45, hF⟩ := ob_s hF
                  refine m_getIN X hp e45 kX4 (Nat.le_of_ble_eq_true rfl) q255 dX1_fact_142 ?_
                  obtain ⟨v46, e47, hF⟩ := ob_s hF
                  refine m_iaI X hp e47 dX1_fact_145 ?_
                  refine lv_iconst (v := 2) hx hb dX1_fact_146 (by decide) ?_
                  refine lv_icmp_ne (tgt := 154) hx hb dX1_fact_147 (by decide) (fun c48 => ?_) (fun c48 => ?_)
                  · have hF := if_n c48 hF
                    refine lv_iconst (v := 0) hx hb dX1_fact_154 (by decide) ?_
                    cases hF
                    exact m_iret X hp dX1_fact_155
                  · have hF := if_p c48 hF
                    refine lv_iconst (v := 1) hx hb dX1_fact_150 (by decide) ?_
                    refine lv_goto (tgt := 155) hx hb dX1_fact_151 (by decide) ?_
                    cases hF
                    exact m_iret X hp dX1_fact_155
              · have hF := if_n c38 hF
                by_cases c49 : x1 = (7 : Int32)
                · have hF := if_p c49 hF
                  refine lv_tableIn (x := x1) (tgt := 156) hx hb dX1_fact_9 (by rw [c49]; decide) (by rw [c49]; decide) (by rw [c49]; rfl) (by decide) ?_
                  refine lv_aload_n hx hb dX1_fact_156 rfl (lv_at hl 1 rfl) ?_
                  obtain ⟨v51, e50, hF⟩ := ob_s hF
                  refine m_callV (As := []) (rest := []) X hp (w_X1_inside e50) q1146 q1147 q1148 q133 q1149 0 rfl ds_X1_inside ⟨Nat.le_of_ble_eq_true rfl, Nat.le_of_ble_eq_true rfl⟩ 2 (T := TX1) (N := 19) rfl (by decide) (rR_s e2).1 hl.1 rfl (Nat.le_of_ble_eq_true rfl) dX1_fact_157 ⟨Nat.le_refl 0, Nat.le_refl 0⟩ (fun H locs hp => ?_)
                  obtain ⟨v53, e52, hF⟩ := ob_s hF
                  refine m_callS (As := [.int v51]) (rest := []) X hp (w_J8_bitCount e52) q1150 q1151 q147 q1152 1 rfl ds_J8_bitCount ⟨Nat.le_of_ble_eq_true rfl, Nat.le_of_ble_eq_true rfl⟩ hl.1 rfl (Nat.le_of_ble_eq_true rfl) dX1_fact_160 ⟨Nat.le_refl 0, Nat.le_refl 0⟩ (fun H locs hp => ?_)
                  cases hF
                  exact m_iret X hp dX1_fact_163
                · have hF := if_n c49 hF
                  by_cases c54 : x1 = (8 : Int32)
                  · have hF := if_p c54 hF
                    refine lv_tableIn (x := x1) (tgt := 164) hx hb dX1_fact_9 (by rw [c54]; decide) (by rw [c54]; decide) (by rw [c54]; rfl) (by decide) ?_
                    refine lv_aload_n hx hb dX1_fact_164 rfl (lv_at hl 1 rfl) ?_
                    obtain ⟨v56, e55, hF⟩ := ob_s hF
                    refine m_callV (As := []) (rest := []) X hp (w_X1_watched e55) q1156 q1158 qs38 q133 q1159 0 rfl ds_X1_watched ⟨Nat.le_of_ble_eq_true rfl, Nat.le_of_ble_eq_true rfl⟩ 2 (T := TX1) (N := 19) rfl (by decide) (rR_s e2).1 hl.1 rfl (Nat.le_of_ble_eq_true rfl) dX1_fact_165 ⟨Nat.le_refl 0, Nat.le_refl 0⟩ (fun H locs hp => ?_)
                    cases hF
                    exact m_iret X hp dX1_fact_168
                  · have hF := if_n c54 hF
                    refine lv_tableOut (x := x1) (tgt := 169) hx hb dX1_fact_9 (tb_out 8 (by decide) (by decide) (fun j hj => by
                      match j, hj with
                      | 0, _ => exact c6
                      | 1, _ => exact c11
                      | 2, _ => exact c16
                      | 3, _ => exact c21
                      | 4, _ => exact c27
                      | 5, _ => exact c33
                      | 6, _ => exact c38
                      | 7, _ => exact c49
                      | 8, _ => exact c54
                      | j + 9, hj => exact absurd hj (by omega))) (by decide) ?_
                    refine lv_aload_n hx hb dX1_fact_169 rfl (lv_at hl 1 rfl) ?_
                    obtain ⟨v57, e58, hF⟩ := ob_s hF
                    refine m_getI X hp e58 kX1 (Nat.le_of_ble_eq_true rfl) q398 dX1_fact_170 ?_
                    cases hF
                    exact m_iret X hp dX1_fact_173
end
