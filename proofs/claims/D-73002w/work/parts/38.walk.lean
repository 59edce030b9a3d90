set_option maxRecDepth 100000
section
variable {l : Launch} {D : va_G} {n0 : Nat} {P : mP} {S : mSh} {M : mMm} {n : Nat} {p : Program} {e : Env} {s : State} {m : MethodId} {args : Array Value} {below : List Frame} {meth : Method} {c : Code}
abbrev Rm_X5_readRule : Room := { frames := 8, cells := 0, slots := 0, locals := 172 }
def fb_X5_readRule_156 (S : mSh) (M : mMm) (x0 : Nat) (x1 : Int32) (x3 : Int32) (x4 : Int32) (x5 : Int32) (x6 : Int32) : Option mMm := gd ((S x0).1 = 6) (ob (f_X5_fine S M x0) fun v48 => (if v48 = 0 then some M else nm (((945 : Int32) + ((5 : Int32) * x1))) fun v50 => ob (rR S M x0 6 16) fun v52 => ob (wA S M v52 100 v50 (.int x3)) fun M54 => ob (rR S M54 x0 6 16) fun v56 => ob (wA S M54 v56 100 (v50 + (1 : Int32)) (.int x4)) fun M58 => ob (rR S M58 x0 6 16) fun v60 => ob (wA S M58 v60 100 (v50 + (2 : Int32)) (.int x5)) fun M62 => ob (rR S M62 x0 6 16) fun v64 => ob (wA S M62 v64 100 (v50 + (3 : Int32)) (.int x5)) fun M66 => ob (rR S M66 x0 6 16) fun v68 => ob (wA S M66 v68 100 (v50 + (4 : Int32)) (.int x6)) fun M70 => some M70))
theorem b_X5_readRule_156 {M' : mMm} (X : mCx D n0 P p m c cX5_readRule 8 s args yX5_readRule.cls meth none) : ∀ (M : mMm) (x0 : Nat) (x1 : Int32) (x3 : Int32) (x4 : Int32) (x5 : Int32) (x6 : Int32) (H : Heap) (locs : List Loc) (ls : Array Slot), mHp D n0 S M n s H locs → lv_has ls 8 [(0, .ref x0), (1, .int x1), (3, .int x3), (4, .int x4), (5, .int x5), (6, .int x6)] → fb_X5_readRule_156 S M x0 x1 x3 x4 x5 x6 = some M' → W p l e Rm_X5_readRule s m args below meth c H locs 0 0 (MQ below (mQ D n0 none S M' n) args s 0 0 (mA n0)) (F0 m 156 ls []) := by
  have hx := X.1.1
  have hb := X.1.2.1
  have hown := X.1.2.2.2.1
  have hts := X.1.2.2.2.2
  intro M x0 x1 x3 x4 x5 x6 H locs ls hp hl hF
  unfold fb_X5_readRule_156 at hF
  refine lv_aload_n hx hb dX5_readRule_156 rfl (lv_at hl 0 rfl) ?_
  obtain ⟨g46, hF⟩ := gd_s hF
  obtain ⟨v48, e47, hF⟩ := ob_s hF
  refine m_callV (As := []) (rest := []) X hp (w_X5_fine e47) q1598 q1600 qs64 q144 q1601 0 rfl ds_X5_fine ⟨Nat.le_of_ble_eq_true rfl, Nat.le_of_ble_eq_true rfl⟩ 6 (T := TX5) (N := 40) rfl (by decide) g46 hl.1 rfl (Nat.le_of_ble_eq_true rfl) dX5_readRule_157 ⟨Nat.le_refl 0, Nat.le_refl 0⟩ (fun H locs hp => ?_)
  refine lv_if_ne (tgt := 164) hx hb dX5_readRule_160 (by decide) (fun c49 => ?_) (fun c49 => ?_)
  · have hF := if_n c49 hF
    refine lv_sipush (v := 945) hx hb dX5_readRule_164 (by decide) ?_
    refine lv_iconst (v := 5) hx hb dX5_readRule_167 (by decide) ?_
    refine lv_iload_n hx hb dX5_readRule_168 rfl (lv_at hl 1 rfl) ?_
    refine lv_imul hx hb dX5_readRule_169 ?_
    refine lv_iadd hx hb dX5_readRule_170 ?_
    refine lv_topi (fun v50 ev51 => ?_)
    have hF := nm_s hF ev51
    refine lv_istore (lv' := [(7, .int v50), (0, .ref x0), (1, .int x1), (3, .int x3), (4, .int x4), (5, .int x5), (6, .int x6)]) hx hb dX5_readRule_171 hl (by decide) rfl (fun ls hl => ?_)
    refine lv_aload_n hx hb dX5_readRule_173 rfl (lv_at hl 1 rfl) ?_
    obtain ⟨v52, e53, hF⟩ := ob_s hF
    refine m_getR X hp e53 kX5 (Nat.le_of_ble_eq_true rfl) q1475 dX5_readRule_174 ?_
    refine lv_iload hx hb dX5_readRule_177 (lv_at hl 0 rfl) ?_
    refine lv_iload_n hx hb dX5_readRule_179 rfl (lv_at hl 3 rfl) ?_
    obtain ⟨M54, e55, hF⟩ := ob_s hF
    refine m_iaW X hp e55 dX5_readRule_180 (fun H locs hp => ?_)
    refine lv_aload_n hx hb dX5_readRule_181 rfl (lv_at hl 1 rfl) ?_
    obtain ⟨v56, e57, hF⟩ := ob_s hF
    refine m_getR X hp e57 kX5 (Nat.le_of_ble_eq_true rfl) q1475 dX5_readRule_182 ?_
    refine lv_iload hx hb dX5_readRule_185 (lv_at hl 0 rfl) ?_
    refine lv_iconst (v := 1) hx hb dX5_readRule_187 (by decide) ?_
    refine lv_iadd hx hb dX5_readRule_188 ?_
    refine lv_iload hx hb dX5_readRule_189 (lv_at hl 4 rfl) ?_
    obtain ⟨M58, e59, hF⟩ := ob_s hF
    refine m_iaW X hp e59 dX5_readRule_191 (fun H locs hp => ?_)
    refine lv_aload_n hx hb dX5_readRule_192 rfl (lv_at hl 1 rfl) ?_
    obtain ⟨v60, e61, hF⟩ := ob_s hF
    refine m_getR X hp e61 kX5 (Nat.le_of_ble_eq_true rfl) q1475 dX5_readRule_193 ?_
    refine lv_iload hx hb dX5_readRule_196 (lv_at hl 0 rfl) ?_
    refine lv_iconst (v := 2) hx hb dX5_readRule_198 (by decide) ?_
    refine lv_iadd hx hb dX5_readRule_199 ?_
    refine lv_iload hx hb dX5_readRule_200 (lv_at hl 5 rfl) ?_
    obtain ⟨M62, e63, hF⟩ := ob_s hF
    refine m_iaW X hp e63 dX5_readRule_202 (fun H locs hp => ?_)
    refine lv_aload_n hx hb dX5_readRule_203 rfl (lv_at hl 1 rfl) ?_
    obtain ⟨v64, e65, hF⟩ := ob_s hF
    refine m_getR X hp e65 kX5 (Nat.le_of_ble_eq_true rfl) q1475 dX5_readRule_204 ?_
    refine lv_iload hx hb dX5_readRule_207 (lv_at hl 0 rfl) ?_
    refine lv_iconst (v := 3) hx hb dX5_readRule_209 (by decide) ?_
    refine lv_iadd hx hb dX5_readRule_210 ?_
    refine lv_iload hx hb dX5_readRule_211 (lv_at hl 5 rfl) ?_
    obtain ⟨M66, e67, hF⟩ := ob_s hF
    refine m_iaW X hp e67 dX5_readRule_213 (fun H locs hp => ?_)
    refine lv_aload_n hx hb dX5_readRule_214 rfl (lv_at hl 1 rfl) ?_
    obtain ⟨v68, e69, hF⟩ := ob_s hF
    refine m_getR X hp e69 kX5 (Nat.le_of_ble_eq_true rfl) q1475 dX5_readRule_215 ?_
    refine lv_iload hx hb dX5_readRule_218 (lv_at hl 0 rfl) ?_
    refine lv_iconst (v := 4) hx hb dX5_readRule_220 (by decide) ?_
    refine lv_iadd hx hb dX5_readRule_221 ?_
    refine lv_iload hx hb dX5_readRule_222 (lv_at hl 6 rfl) ?_
    obtain ⟨M70, e71, hF⟩ := ob_s hF
    refine m_iaW X hp e71 dX5_readRule_224 (fun H locs hp => ?_)
    cases hF
    exact m_vret X hp dX5_readRule_225
  · have hF := if_p c49 hF
    cases hF
    exact m_vret X hp dX5_readRule_163
def fb_X5_readRule_93 (S : mSh) (M : mMm) (x0 : Nat) (x1 : Int32) (x3 : Int32) (y0 : Int32) (y1 : Int32) (y2 : Nat) : Option mMm := gd ((S y2).1 = 6) (ob (f_X5_mayBegin S M y2 y1 y0) fun M19 => ob (rI S M19 x0 6 17) fun v20 => ob (f_X5_readSum S M19 x0) fun M24 => ob (rI S M24 x0 6 17) fun v25 => nm ((-1 : Int32)) fun v27 => ob (f_X5_fine S M24 x0) fun v30 => (if v30 = 0 then (fb_X5_readRule_156 S M24 x0 x1 x3 v20 v25 v27) else ob (f_X5_word S M24 x0) fun ⟨v33, M34⟩ => ob (f_X5_spelt (119 : Int32) (104 : Int32) (101 : Int32) (110 : Int32) (0 : Int32) (0 : Int32)) fun v36 => (if v33 = v36 then ob (f_X5_pass S M34 x0) fun M40 => ob (f_X5_readEither S M40 x0) fun M43 => ob (rI S M43 x0 6 17) fun v44 => (fb_X5_readRule_156 S M43 x0 x1 x3 v20 v25 v44) else (fb_X5_readRule_156 S M34 x0 x1 x3 v20 v25 v27))))
theorem b_X5_readRule_93 {M' : mMm} (X : mCx D n0 P p m c cX5_readRule 8 s args yX5_readRule.cls meth none) : ∀ (M : mMm) (x0 : Nat) (x1 : Int32) (x3 : Int32) (y0 : Int32) (y1 : Int32) (y2 : Nat) (H : Heap) (locs : List Loc) (ls : Array Slot), mHp D n0 S M n s H locs → lv_has ls 8 [(0, .ref x0), (1, .int x1), (3, .int x3)] → fb_X5_readRule_93 S M x0 x1 x3 y0 y1 y2 = some M' → W p l e Rm_X5_readRule s m args below meth c H locs 0 0 (MQ below (mQ D n0 none S M' n) args s 0 0 (mA n0)) (F0 m 93 ls [.int y0, .int y1, .ref y2]) := by
  have hx := X.1.1
  have hb := X.1.2.1
  have hown := X.1.2.2.2.1
  have hts := X.1.2.2.2.2
  intro M x0 x1 x3 y0 y1 y2 H locs ls hp hl hF
  unfold fb_X5_readRule_93 at hF
  obtain ⟨g16, hF⟩ := gd_s hF
  obtain ⟨M19, e17, hF⟩ := ob_s hF
  refine m_callV (As := [.int y1, .int y0]) (rest := []) X hp (w_X5_mayBegin e17) q1623 q1625 qs68 q144 q1626 2 rfl ds_X5_mayBegin ⟨Nat.le_of_ble_eq_true rfl, Nat.le_of_ble_eq_true rfl⟩ 6 (T := TX5) (N := 40) rfl (by decide) g16 hl.1 rfl (Nat.le_of_ble_eq_true rfl) dX5_readRule_93 ⟨Nat.le_refl 0, Nat.le_refl 0⟩ (fun H locs hp => ?_)
  refine lv_aload_n hx hb dX5_readRule_96 rfl (lv_at hl 0 rfl) ?_
  obtain ⟨v20, e21, hF⟩ := ob_s hF
  refine m_getI X hp e21 kX5 (Nat.le_of_ble_eq_true rfl) q1476 dX5_readRule_97 ?_
  refine lv_istore (lv' := [(4, .int v20), (0, .ref x0), (1, .int x1), (3, .int x3)]) hx hb dX5_readRule_100 hl (by decide) rfl (fun ls hl => ?_)
  refine lv_aload_n hx hb dX5_readRule_102 rfl (lv_at hl 1 rfl) ?_
  obtain ⟨M24, e22, hF⟩ := ob_s hF
  refine m_callV (As := []) (rest := []) X hp (w_X5_readSum e22) q1635 q1637 qs71 q144 q1638 0 rfl ds_X5_readSum ⟨Nat.le_of_ble_eq_true rfl, Nat.le_of_ble_eq_true rfl⟩ 6 (T := TX5) (N := 40) rfl (by decide) (rI_s e21).1 hl.1 rfl (Nat.le_of_ble_eq_true rfl) dX5_readRule_103 ⟨Nat.le_refl 0, Nat.le_refl 0⟩ (fun H locs hp => ?_)
  refine lv_aload_n hx hb dX5_readRule_106 rfl (lv_at hl 1 rfl) ?_
  obtain ⟨v25, e26, hF⟩ := ob_s hF
  refine m_getI X hp e26 kX5 (Nat.le_of_ble_eq_true rfl) q1476 dX5_readRule_107 ?_
  refine lv_istore (lv' := [(5, .int v25), (4, .int v20), (0, .ref x0), (1, .int x1), (3, .int x3)]) hx hb dX5_readRule_110 hl (by decide) rfl (fun ls hl => ?_)
  refine lv_iconst (v := -1) hx hb dX5_readRule_112 (by decide) ?_
  refine lv_topi (fun v27 ev28 => ?_)
  have hF := nm_s hF ev28
  refine lv_istore (lv' := [(6, .int v27), (5, .int v25), (4, .int v20), (0, .ref x0), (1, .int x1), (3, .int x3)]) hx hb dX5_readRule_113 hl (by decide) rfl (fun ls hl => ?_)
  refine lv_aload_n hx hb dX5_readRule_115 rfl (lv_at hl 3 rfl) ?_
  obtain ⟨v30, e29, hF⟩ := ob_s hF
  refine m_callV (As := []) (rest := []) X hp (w_X5_fine e29) q1598 q1600 qs64 q144 q1601 0 rfl ds_X5_fine ⟨Nat.le_of_ble_eq_true rfl, Nat.le_of_ble_eq_true rfl⟩ 6 (T := TX5) (N := 40) rfl (by decide) (rI_s e26).1 hl.1 rfl (Nat.le_of_ble_eq_true rfl) dX5_readRule_116 ⟨Nat.le_refl 0, Nat.le_refl 0⟩ (fun H locs hp => ?_)
  refine lv_if_eq (tgt := 156) hx hb dX5_readRule_119 (by decide) (fun c31 => ?_) (fun c31 => ?_)
  · have hF := if_p c31 hF
    exact b_X5_readRule_156 X _ _ _ _ _ _ _ _ _ _ hp (lv_sub hl [3, 4, 5, 2, 1, 0] rfl) hF
  · have hF := if_n c31 hF
    refine lv_aload_n hx hb dX5_readRule_122 rfl (lv_at hl 3 rfl) ?_
    obtain ⟨⟨v33, M34⟩, e32, hF⟩ := ob_s hF
    refine m_callV (As := []) (rest := []) X hp (w_X5_word e32) q1610 q1612 qs67 q144 q1613 0 rfl ds_X5_word ⟨Nat.le_of_ble_eq_true rfl, Nat.le_of_ble_eq_true rfl⟩ 6 (T := TX5) (N := 40) rfl (by decide) (rI_s e26).1 hl.1 rfl (Nat.le_of_ble_eq_true rfl) dX5_readRule_123 ⟨Nat.le_refl 0, Nat.le_refl 0⟩ (fun H locs hp => ?_)
    refine lv_bipush (v := 119) hx hb dX5_readRule_126 (by decide) ?_
    refine lv_bipush (v := 104) hx hb dX5_readRule_128 (by decide) ?_
    refine lv_bipush (v := 101) hx hb dX5_readRule_130 (by decide) ?_
    refine lv_bipush (v := 110) hx hb dX5_readRule_132 (by decide) ?_
    refine lv_iconst (v := 0) hx hb dX5_readRule_134 (by decide) ?_
    refine lv_iconst (v := 0) hx hb dX5_readRule_135 (by decide) ?_
    obtain ⟨v36, e35, hF⟩ := ob_s hF
    refine m_callS (As := [.int (119 : Int32), .int (104 : Int32), .int (101 : Int32), .int (110 : Int32), .int (0 : Int32), .int (0 : Int32)]) (rest := [.int v33]) X hp (w_X5_spelt e35) q1620 q1621 q144 q1622 6 rfl ds_X5_spelt ⟨Nat.le_of_ble_eq_true rfl, Nat.le_of_ble_eq_true rfl⟩ hl.1 rfl (Nat.le_of_ble_eq_true rfl) dX5_readRule_136 ⟨Nat.le_refl 0, Nat.le_refl 0⟩ (fun H locs hp => ?_)
    refine lv_icmp_ne (tgt := 156) hx hb dX5_readRule_139 (by decide) (fun c37 => ?_) (fun c37 => ?_)
    · have hF := if_n c37 hF
      exact b_X5_readRule_156 X _ _ _ _ _ _ _ _ _ _ hp (lv_sub hl [3, 4, 5, 2, 1, 0] rfl) hF
    · have hF := if_p c37 hF
      refine lv_aload_n hx hb dX5_readRule_142 rfl (lv_at hl 3 rfl) ?_
      obtain ⟨M40, e38, hF⟩ := ob_s hF
      refine m_callV (As := []) (rest := []) X hp (w_X5_pass e38) q1631 q1633 qs70 q144 q1634 0 rfl ds_X5_pass ⟨Nat.le_of_ble_eq_true rfl, Nat.le_of_ble_eq_true rfl⟩ 6 (T := TX5) (N := 40) rfl (by decide) (rI_s e26).1 hl.1 rfl (Nat.le_of_ble_eq_true rfl) dX5_readRule_143 ⟨Nat.le_refl 0, Nat.le_refl 0⟩ (fun H locs hp => ?_)
      refine lv_aload_n hx hb dX5_readRule_146 rfl (lv_at hl 3 rfl) ?_
      obtain ⟨M43, e41, hF⟩ := ob_s hF
      refine m_callV (As := []) (rest := []) X hp (w_X5_readEither e41) q1661 q1663 qs76 q144 q1664 0 rfl ds_X5_readEither ⟨Nat.le_of_ble_eq_true rfl, Nat.le_of_ble_eq_true rfl⟩ 6 (T := TX5) (N := 40) rfl (by decide) (rI_s e26).1 hl.1 rfl (Nat.le_of_ble_eq_true rfl) dX5_readRule_147 ⟨Nat.le_refl 0, Nat.le_refl 0⟩ (fun H locs hp => ?_)
      refine lv_aload_n hx hb dX5_readRule_150 rfl (lv_at hl 3 rfl) ?_
      obtain ⟨v44, e45, hF⟩ := ob_s hF
      refine m_getI X hp e45 kX5 (Nat.le_of_ble_eq_true rfl) q1476 dX5_readRule_151 ?_
      refine lv_istore (lv' := [(6, .int v44), (5, .int v25), (4, .int v20), (0, .ref x0), (1, .int x1), (3, .int x3)]) hx hb dX5_readRule_154 hl (by decide) rfl (fun ls hl => ?_)
      exact b_X5_readRule_156 X _ _ _ _ _ _ _ _ _ _ hp (lv_sub hl [3, 4, 5, 2, 1, 0] rfl) hF
def fb_X5_readRule_82 (S : mSh) (M : mMm) (x0 : Nat) (x1 : Int32) (x3 : Int32) (y0 : Int32) (y1 : Nat) : Option mMm := (if x1 = (16 : Int32) then (fb_X5_readRule_93 S M x0 x1 x3 (1 : Int32) y0 y1) else (fb_X5_readRule_93 S M x0 x1 x3 (0 : Int32) y0 y1))
theorem b_X5_readRule_82 {M' : mMm} (X : mCx D n0 P p m c cX5_readRule 8 s args yX5_readRule.cls meth none) : ∀ (M : mMm) (x0 : Nat) (x1 : Int32) (x3 : Int32) (y0 : Int32) (y1 : Nat) (H : Heap) (locs : List Loc) (ls : Array Slot), mHp D n0 S M n s H locs → lv_has ls 8 [(0, .ref x0), (1, .int x1), (3, .int x3)] → fb_X5_readRule_82 S M x0 x1 x3 y0 y1 = some M' → W p l e Rm_X5_readRule s m args below meth c H locs 0 0 (MQ below (mQ D n0 none S M' n) args s 0 0 (mA n0)) (F0 m 82 ls [.int y0, .ref y1]) := by
  have hx := X.1.1
  have hb := X.1.2.1
  have hown := X.1.2.2.2.1
  have hts := X.1.2.2.2.2
  intro M x0 x1 x3 y0 y1 H locs ls hp hl hF
  unfold fb_X5_readRule_82 at hF
  refine lv_iload_n hx hb dX5_readRule_82 rfl (lv_at hl 1 rfl) ?_
  refine lv_bipush (v := 16) hx hb dX5_readRule_83 (by decide) ?_
  refine lv_icmp_ne (tgt := 92) hx hb dX5_readRule_85 (by decide) (fun c15 => ?_) (fun c15 => ?_)
  · have hF := if_n c15 hF
    refine lv_iconst (v := 0) hx hb dX5_readRule_92 (by decide) ?_
    exact b_X5_readRule_93 X _ _ _ _ _ _ _ _ _ _ hp (lv_sub hl [0, 1, 2] rfl) hF
  · have hF := if_p c15 hF
    refine lv_iconst (v := 1) hx hb dX5_readRule_88 (by decide) ?_
    refine lv_goto (tgt := 93) hx hb dX5_readRule_89 (by decide) ?_
    exact b_X5_readRule_93 X _ _ _ _ _ _ _ _ _ _ hp (lv_sub hl [0, 1, 2] rfl) hF
def fb_X5_readRule_70 (S : mSh) (M : mMm) (x0 : Nat) (x1 : Int32) (y0 : Int32) : Option mMm := (if y0 = (-1 : Int32) then (fb_X5_readRule_82 S M x0 x1 y0 (0 : Int32) x0) else (fb_X5_readRule_82 S M x0 x1 y0 (1 : Int32) x0))
theorem b_X5_readRule_70 {M' : mMm} (X : mCx D n0 P p m c cX5_readRule 8 s args yX5_readRule.cls meth none) : ∀ (M : mMm) (x0 : Nat) (x1 : Int32) (y0 : Int32) (H : Heap) (locs : List Loc) (ls : Array Slot), mHp D n0 S M n s H locs → lv_has ls 8 [(0, .ref x0), (1, .int x1)] → fb_X5_readRule_70 S M x0 x1 y0 = some M' → W p l e Rm_X5_readRule s m args below meth c H locs 0 0 (MQ below (mQ D n0 none S M' n) args s 0 0 (mA n0)) (F0 m 70 ls [.int y0]) := by
  have hx := X.1.1
  have hb := X.1.2.1
  have hown := X.1.2.2.2.1
  have hts := X.1.2.2.2.2
  intro M x0 x1 y0 H locs ls hp hl hF
  unfold fb_X5_readRule_70 at hF
  refine lv_istore_n (lv' := [(3, .int y0), (0, .ref x0), (1, .int x1)]) hx hb dX5_readRule_70 rfl hl (by decide) rfl (fun ls hl => ?_)
  refine lv_aload_n hx hb dX5_readRule_71 rfl (lv_at hl 1 rfl) ?_
  refine lv_iload_n hx hb dX5_readRule_72 rfl (lv_at hl 0 rfl) ?_
  refine lv_iconst (v := -1) hx hb dX5_readRule_73 (by decide) ?_
  refine lv_icmp_eq (tgt := 81) hx hb dX5_readRule_74 (by decide) (fun c14 => ?_) (fun c14 => ?_)
  · have hF := if_p c14 hF
    refine lv_iconst (v := 0) hx hb dX5_readRule_81 (by decide) ?_
    exact b_X5_readRule_82 X _ _ _ _ _ _ _ _ _ hp (lv_sub hl [1, 2, 0] rfl) hF
  · have hF := if_n c14 hF
    refine lv_iconst (v := 1) hx hb dX5_readRule_77 (by decide) ?_
    refine lv_goto (tgt := 82) hx hb dX5_readRule_78 (by decide) ?_
    exact b_X5_readRule_82 X _ _ _ _ _ _ _ _ _ hp (lv_sub hl [1, 2, 0] rfl) hF
def f_X5_readRule (S : mSh) (M : mMm) (x0 : Nat) (x1 : Int32) : Option mMm := gd ((S x0).1 = 6) (ob (f_X5_word S M x0) fun ⟨v3, M4⟩ => ob (f_X5_spelt (115 : Int32) (108 : Int32) (105 : Int32) (112 : Int32) (115 : Int32) (0 : Int32)) fun v6 => (if v3 = v6 then (fb_X5_readRule_70 S M4 x0 x1 (0 : Int32)) else ob (f_X5_spelt (115 : Int32) (101 : Int32) (101 : Int32) (115 : Int32) (0 : Int32) (0 : Int32)) fun v9 => (if v3 = v9 then (fb_X5_readRule_70 S M4 x0 x1 (1 : Int32)) else ob (f_X5_spelt (112 : Int32) (97 : Int32) (121 : Int32) (115 : Int32) (0 : Int32) (0 : Int32)) fun v12 => (if v3 = v12 then (fb_X5_readRule_70 S M4 x0 x1 (2 : Int32)) else (fb_X5_readRule_70 S M4 x0 x1 (-1 : Int32))))))
theorem w_X5_readRule {x0 : Nat} {x1 : Int32} {M' : mMm} (hF : f_X5_readRule S M x0 x1 = some M') : mCt l D n0 P yX5_readRule cX5_readRule 8 none 8 172 0 0 [.ref x0, .int x1] S M n none S M' n := by
  refine m_ofW (by decide) (Nat.le_of_ble_eq_true rfl) (fun p e s m below meth c X hnm hp ls hl => ?_)
  have hx := X.1.1
  have hb := X.1.2.1
  have hown := X.1.2.2.2.1
  have hts := X.1.2.2.2.2
  have hl : lv_has ls 8 [(0, .ref x0), (1, .int x1)] := hl
  unfold f_X5_readRule at hF
  refine lv_aload_n hx hb dX5_readRule_0 rfl (lv_at hl 0 rfl) ?_
  obtain ⟨g1, hF⟩ := gd_s hF
  obtain ⟨⟨v3, M4⟩, e2, hF⟩ := ob_s hF
  refine m_callV (As := []) (rest := []) X hp (w_X5_word e2) q1610 q1612 qs67 q144 q1613 0 rfl ds_X5_word ⟨Nat.le_of_ble_eq_true rfl, Nat.le_of_ble_eq_true rfl⟩ 6 (T := TX5) (N := 40) rfl (by decide) g1 hl.1 rfl (Nat.le_of_ble_eq_true rfl) dX5_readRule_1 ⟨Nat.le_refl 0, Nat.le_refl 0⟩ (fun H locs hp => ?_)
  refine lv_istore_n (lv' := [(2, .int v3), (0, .ref x0), (1, .int x1)]) hx hb dX5_readRule_4 rfl hl (by decide) rfl (fun ls hl => ?_)
  refine lv_iload_n hx hb dX5_readRule_5 rfl (lv_at hl 0 rfl) ?_
  refine lv_bipush (v := 115) hx hb dX5_readRule_6 (by decide) ?_
  refine lv_bipush (v := 108) hx hb dX5_readRule_8 (by decide) ?_
  refine lv_bipush (v := 105) hx hb dX5_readRule_10 (by decide) ?_
  refine lv_bipush (v := 112) hx hb dX5_readRule_12 (by decide) ?_
  refine lv_bipush (v := 115) hx hb dX5_readRule_14 (by decide) ?_
  refine lv_iconst (v := 0) hx hb dX5_readRule_16 (by decide) ?_
  obtain ⟨v6, e5, hF⟩ := ob_s hF
  refine m_callS (As := [.int (115 : Int32), .int (108 : Int32), .int (105 : Int32), .int (112 : Int32), .int (115 : Int32), .int (0 : Int32)]) (rest := [.int v3]) X hp (w_X5_spelt e5) q1620 q1621 q144 q1622 6 rfl ds_X5_spelt ⟨Nat.le_of_ble_eq_true rfl, Nat.le_of_ble_eq_true rfl⟩ hl.1 rfl (Nat.le_of_ble_eq_true rfl) dX5_readRule_17 ⟨Nat.le_refl 0, Nat.le_refl 0⟩ (fun H locs hp => ?_)
  refine lv_icmp_ne (tgt := 27) hx hb dX5_readRule_20 (by decide) (fun c7 => ?_) (fun c7 => ?_)
  · have hF := if_n c7 hF
    refine lv_iload_n hx hb dX5_readRule_27 rfl (lv_at hl 0 rfl) ?_
    refine lv_bipush (v := 115) hx hb dX5_readRule_28 (by decide) ?_
    refine lv_bipush (v := 101) hx hb dX5_readRule_30 (by decide) ?_
    refine lv_bipush (v := 101) hx hb dX5_readRule_32 (by decide) ?_
    refine lv_bipush (v := 115) hx hb dX5_readRule_34 (by decide) ?_
    refine lv_iconst (v := 0) hx hb dX5_readRule_36 (by decide) ?_
    refine lv_iconst (v := 0) hx hb dX5_readRule_37 (by decide) ?_
    obtain ⟨v9, e8, hF⟩ := ob_s hF
    refine m_callS (As := [.int (115 : Int32), .int (101 : Int32), .int (101 : Int32), .int (115 : Int32), .int (0 : Int32), .int (0 : Int32)]) (rest := [.int v3]) X hp (w_X5_spelt e8) q1620 q1621 q144 q1622 6 rfl ds_X5_spelt ⟨Nat.le_of_ble_eq_true rfl, Nat.le_of_ble_eq_true rfl⟩ hl.1 rfl (Nat.le_of_ble_eq_true rfl) dX5_readRule_38 ⟨Nat.le_refl 0, Nat.le_refl 0⟩ (fun H locs hp => ?_)
    refine lv_icmp_ne (tgt := 48) hx hb dX5_readRule_41 (by decide) (fun c10 => ?_) (fun c10 => ?_)
    · have hF := if_n c10 hF
      refine lv_iload_n hx hb dX5_readRule_48 rfl (lv_at hl 0 rfl) ?_
      refine lv_bipush (v := 112) hx hb dX5_readRule_49 (by decide) ?_
      refine lv_bipush (v := 97) hx hb dX5_readRule_51 (by decide) ?_
      refine lv_bipush (v := 121) hx hb dX5_readRule_53 (by decide) ?_
      refine lv_bipush (v := 115) hx hb dX5_readRule_55 (by decide) ?_
      refine lv_iconst (v := 0) hx hb dX5_readRule_57 (by decide) ?_
      refine lv_iconst (v := 0) hx hb dX5_readRule_58 (by decide) ?_
      obtain ⟨v12, e11, hF⟩ := ob_s hF
      refine m_callS (As := [.int (112 : Int32), .int (97 : Int32), .int (121 : Int32), .int (115 : Int32), .int (0 : Int32), .int (0 : Int32)]) (rest := [.int v3]) X hp (w_X5_spelt e11) q1620 q1621 q144 q1622 6 rfl ds_X5_spelt ⟨Nat.le_of_ble_eq_true rfl, Nat.le_of_ble_eq_true rfl⟩ hl.1 rfl (Nat.le_of_ble_eq_true rfl) dX5_readRule_59 ⟨Nat.le_refl 0, Nat.le_refl 0⟩ (fun H locs hp => ?_)
      refine lv_icmp_ne (tgt := 69) hx hb dX5_readRule_62 (by decide) (fun c13 => ?_) (fun c13 => ?_)
      · have hF := if_n c13 hF
        refine lv_iconst (v := -1) hx hb dX5_readRule_69 (by decide) ?_
        exact b_X5_readRule_70 X _ _ _ _ _ _ _ hp (lv_sub hl [1, 2] rfl) hF
      · have hF := if_p c13 hF
        refine lv_iconst (v := 2) hx hb dX5_readRule_65 (by decide) ?_
        refine lv_goto (tgt := 70) hx hb dX5_readRule_66 (by decide) ?_
        exact b_X5_readRule_70 X _ _ _ _ _ _ _ hp (lv_sub hl [1, 2] rfl) hF
    · have hF := if_p c10 hF
      refine lv_iconst (v := 1) hx hb dX5_readRule_44 (by decide) ?_
      refine lv_goto (tgt := 70) hx hb dX5_readRule_45 (by decide) ?_
      exact b_X5_readRule_70 X _ _ _ _ _ _ _ hp (lv_sub hl [1, 2] rfl) hF
  · have hF := if_p c7 hF
    refine lv_iconst (v := 0) hx hb dX5_readRule_23 (by decide) ?_
    refine lv_goto (tgt := 70) hx hb dX5_readRule_24 (by decide) ?_
    exact b_X5_readRule_70 X _ _ _ _ _ _ _ hp (lv_sub hl [1, 2] rfl) hF
end
section
variable {l : Launch} {D : va_G} {n0 : Nat} {P : mP} {S : mSh} {M : mMm} {n : Nat} {p : Program} {e : Env} {s : State} {m : MethodId} {args : Array Value} {below : List Frame} {meth : Method} {c : Code}
abbrev Rm_X5_readStones : Room := { frames := 3, cells := 0, slots := 0, locals := 62 }
def fb_X5_readStones_315 (S : mSh) (k193 : mMm → Nat → Int32 → Int32 → Int32 → Int32 → Int32 → Int32 → Option mMm) (M : mMm) (x0 : Nat) (x3 : Int32) (x4 : Int32) (x5 : Int32) (x6 : Int32) (x7 : Int32) (x8 : Int32) (y0 : Int32) (y1 : Int32) (y2 : Nat) : Option mMm := ob (wA S M y2 100 y1 (.int y0)) fun M72 => nm (x8 + (1 : Int32)) fun v74 => (k193 M72 x0 x3 x4 x5 x6 x7 v74)
theorem b_X5_readStones_315 {M' : mMm} (X : mCx D n0 P p m c cX5_readStones 10 s args yX5_readStones.cls meth none) (k193 : mMm → Nat → Int32 → Int32 → Int32 → Int32 → Int32 → Int32 → Option mMm) (hk193 : ∀ (M : mMm) (x0 : Nat) (x3 : Int32) (x4 : Int32) (x5 : Int32) (x6 : Int32) (x7 : Int32) (x8 : Int32) (H : Heap) (locs : List Loc) (ls : Array Slot), mHp D n0 S M n s H locs → lv_has ls 10 [(0, .ref x0), (3, .int x3), (4, .int x4), (5, .int x5), (6, .int x6), (7, .int x7), (8, .int x8)] → k193 M x0 x3 x4 x5 x6 x7 x8 = some M' → W p l e Rm_X5_readStones s m args below meth c H locs 0 0 (MQ below (mQ D n0 none S M' n) args s 0 0 (mA n0)) (F0 m 193 ls [])) : ∀ (M : mMm) (x0 : Nat) (x3 : Int32) (x4 : Int32) (x5 : Int32) (x6 : Int32) (x7 : Int32) (x8 : Int32) (y0 : Int32) (y1 : Int32) (y2 : Nat) (H : Heap) (locs : List Loc) (ls : Array Slot), mHp D n0 S M n s H locs → lv_has ls 10 [(0, .ref x0), (3, .int x3), (4, .int x4), (5, .int x5), (6, .int x6), (7, .int x7), (8, .int x8)] → fb_X5_readStones_315 S k193 M x0 x3 x4 x5 x6 x7 x8 y0 y1 y2 = some M' → W p l e Rm_X5_readStones s m args below meth c H locs 0 0 (MQ below (mQ D n0 none S M' n) args s 0 0 (mA n0)) (F0 m 315 ls [.int y0, .int y1, .ref y2]) := by
  have hx := X.1.1
  have hb := X.1.2.1
  have hown := X.1.2.2.2.1
  have hts := X.1.2.2.2.2
  intro M x0 x3 x4 x5 x6 x7 x8 y0 y1 y2 H locs ls hp hl hF
  unfold fb_X5_readStones_315 at hF
  obtain ⟨M72, e73, hF⟩ := ob_s hF
  refine m_iaW X hp e73 dX5_readStones_315 (fun H locs hp => ?_)
  obtain ⟨v74, ev75⟩ : ∃ y : Int32, y = x8 + (1 : Int32) := ⟨_, rfl⟩
  have hF := nm_s hF ev75
  refine lv_iinc (v := v74) (lv' := [(8, .int v74), (0, .ref x0), (3, .int x3), (4, .int x4), (5, .int x5), (6, .int x6), (7, .int x7)]) hx hb dX5_readStones_316 hl (k := 6) rfl (by rw [ev75]; rfl) (by decide) rfl (fun ls hl => ?_)
  refine lv_goto (tgt := 193) hx hb dX5_readStones_319 (by decide) ?_
  exact hk193 _ _ _ _ _ _ _ _ _ _ _ hp (lv_sub hl [1, 2, 3, 4, 5, 6, 0] rfl) hF
def fb_X5_readStones_291 (S : mSh) (k193 : mMm → Nat → Int32 → Int32 → Int32 → Int32 → Int32 → Int32 → Option mMm) (M : mMm) (x0 : Nat) (x3 : Int32) (x4 : Int32) (x5 : Int32) (x6 : Int32) (x7 : Int32) (x8 : Int32) (y0 : Int32) : Option mMm := ob (rR S M x0 6 16) fun v65 => (if y0 = 0 then ob (rR S M x0 6 16) fun v68 => ob (aI S M v68 100 x8) fun v70 => (fb_X5_readStones_315 S k193 M x0 x3 x4 x5 x6 x7 x8 v70 x8 v65) else (fb_X5_readStones_315 S k193 M x0 x3 x4 x5 x6 x7 x8 x3 x8 v65))
theorem b_X5_readStones_291 {M' : mMm} (X : mCx D n0 P p m c cX5_readStones 10 s args yX5_readStones.cls meth none) (k193 : mMm → Nat → Int32 → Int32 → Int32 → Int32 → Int32 → Int32 → Option mMm) (hk193 : ∀ (M : mMm) (x0 : Nat) (x3 : Int32) (x4 : Int32) (x5 : Int32) (x6 : Int32) (x7 : Int32) (x8 : Int32) (H : Heap) (locs : List Loc) (ls : Array Slot), mHp D n0 S M n s H locs → lv_has ls 10 [(0, .ref x0), (3, .int x3), (4, .int x4), (5, .int x5), (6, .int x6), (7, .int x7), (8, .int x8)] → k193 M x0 x3 x4 x5 x6 x7 x8 = some M' → W p l e Rm_X5_readStones s m args below meth c H locs 0 0 (MQ below (mQ D n0 none S M' n) args s 0 0 (mA n0)) (F0 m 193 ls [])) : ∀ (M : mMm) (x0 : Nat) (x3 : Int32) (x4 : Int32) (x5 : Int32) (x6 : Int32) (x7 : Int32) (x8 : Int32) (y0 : Int32) (H : Heap) (locs : List Loc) (ls : Array Slot), mHp D n0 S M n s H locs → lv_has ls 10 [(0, .ref x0), (3, .int x3), (4, .int x4), (5, .int x5), (6, .int x6), (7, .int x7), (8, .int x8)] → fb_X5_readStones_291 S k193 M x0 x3 x4 x5 x6 x7 x8 y0 = some M' → W p l e Rm_X5_readStones s m args below meth c H locs 0 0 (MQ below (mQ D n0 none S M' n) args s 0 0 (mA n0)) (F0 m 291 ls [.int y0]) := by
  have hx := X.1.1
  have hb := X.1.2.1
  have hown := X.1.2.2.2.1
  have hts := X.1.2.2.2.2
  intro M x0 x3 x4 x5 x6 x7 x8 y0 H locs ls hp hl hF
  unfold fb_X5_readStones_291 at hF
  refine lv_istore (lv' := [(9, .int y0), (0, .ref x0), (3, .int x3), (4, .int x4), (5, .int x5), (6, .int x6), (7, .int x7), (8, .int x8)]) hx hb dX5_readStones_291 hl (by decide) rfl (fun ls hl => ?_)
  refine lv_aload_n hx hb dX5_readStones_293 rfl (lv_at hl 1 rfl) ?_
  obtain ⟨v65, e66, hF⟩ := ob_s hF
  refine m_getR X hp e66 kX5 (Nat.le_of_ble_eq_true rfl) q1475 dX5_readStones_294 ?_
  refine lv_iload hx hb dX5_readStones_297 (lv_at hl 7 rfl) ?_
  refine lv_iload hx hb dX5_readStones_299 (lv_at hl 0 rfl) ?_
  refine lv_if_eq (tgt := 308) hx hb dX5_readStones_301 (by decide) (fun c67 => ?_) (fun c67 => ?_)
  · have hF := if_p c67 hF
    refine lv_aload_n hx hb dX5_readStones_308 rfl (lv_at hl 1 rfl) ?_
    obtain ⟨v68, e69, hF⟩ := ob_s hF
    refine m_getR X hp e69 kX5 (Nat.le_of_ble_eq_true rfl) q1475 dX5_readStones_309 ?_
    refine lv_iload hx hb dX5_readStones_312 (lv_at hl 7 rfl) ?_
    obtain ⟨v70, e71, hF⟩ := ob_s hF
    refine m_iaI X hp e71 dX5_readStones_314 ?_
    exact b_X5_readStones_315 X _ hk193 _ _ _ _ _ _ _ _ _ _ _ _ _ _ hp (lv_sub hl [1, 2, 3, 4, 5, 6, 7] rfl) hF
  · have hF := if_n c67 hF
    refine lv_iload_n hx hb dX5_readStones_304 rfl (lv_at hl 2 rfl) ?_
    refine lv_goto (tgt := 315) hx hb dX5_readStones_305 (by decide) ?_
    exact b_X5_readStones_315 X _ hk193 _ _ _ _ _ _ _ _ _ _ _ _ _ _ hp (lv_sub hl [1, 2, 3, 4, 5, 6, 7] rfl) hF
def fb_X5_readStones_280 (S : mSh) (k193 : mMm → Nat → Int32 → Int32 → Int32 → Int32 → Int32 → Int32 → Option mMm) (M : mMm) (x0 : Nat) (x3 : Int32) (x4 : Int32) (x5 : Int32) (x6 : Int32) (x7 : Int32) (x8 : Int32) (y0 : Int32) (y1 : Int32) (y2 : Int32) : Option mMm := ob (f_X5_within y2 y1 y0) fun v63 => (if v63 = 0 then (fb_X5_readStones_291 S k193 M x0 x3 x4 x5 x6 x7 x8 (0 : Int32)) else (fb_X5_readStones_291 S k193 M x0 x3 x4 x5 x6 x7 x8 (1 : Int32)))
theorem b_X5_readStones_280 {M' : mMm} (X : mCx D n0 P p m c cX5_readStones 10 s args yX5_readStones.cls meth none) (k193 : mMm → Nat → Int32 → Int32 → Int32 → Int32 → Int32 → Int32 → Option mMm) (hk193 : ∀ (M : mMm) (x0 : Nat) (x3 : Int32) (x4 : Int32) (x5 : Int32) (x6 : Int32) (x7 : Int32) (x8 : Int32) (H : Heap) (locs : List Loc) (ls : Array Slot), mHp D n0 S M n s H locs → lv_has ls 10 [(0, .ref x0), (3, .int x3), (4, .int x4), (5, .int x5), (6, .int x6), (7, .int x7), (8, .int x8)] → k193 M x0 x3 x4 x5 x6 x7 x8 = some M' → W p l e Rm_X5_readStones s m args below meth c H locs 0 0 (MQ below (mQ D n0 none S M' n) args s 0 0 (mA n0)) (F0 m 193 ls [])) : ∀ (M : mMm) (x0 : Nat) (x3 : Int32) (x4 : Int32) (x5 : Int32) (x6 : Int32) (x7 : Int32) (x8 : Int32) (y0 : Int32) (y1 : Int32) (y2 : Int32) (H : Heap) (locs : List Loc) (ls : Array Slot), mHp D n0 S M n s H locs → lv_has ls 10 [(0, .ref x0), (3, .int x3), (4, .int x4), (5, .int x5), (6, .int x6), (7, .int x7), (8, .int x8)] → fb_X5_readStones_280 S k193 M x0 x3 x4 x5 x6 x7 x8 y0 y1 y2 = some M' → W p l e Rm_X5_readStones s m args below meth c H locs 0 0 (MQ below (mQ D n0 none S M' n) args s 0 0 (mA n0)) (F0 m 280 ls [.int y0, .int y1, .int y2]) := by
  have hx := X.1.1
  have hb := X.1.2.1
  have hown := X.1.2.2.2.1
  have hts := X.1.2.2.2.2
  intro M x0 x3 x4 x5 x6 x7 x8 y0 y1 y2 H locs ls hp hl hF
  unfold fb_X5_readStones_280 at hF
  obtain ⟨v63, e62, hF⟩ := ob_s hF
  refine m_callS (As := [.int y2, .int y1, .int y0]) (rest := []) X hp (w_X5_within e62) q1588 q1589 q144 q1590 3 rfl ds_X5_within ⟨Nat.le_of_ble_eq_true rfl, Nat.le_of_ble_eq_true rfl⟩ hl.1 rfl (Nat.le_of_ble_eq_true rfl) dX5_readStones_280 ⟨Nat.le_refl 0, Nat.le_refl 0⟩ (fun H locs hp => ?_)
  refine lv_if_eq (tgt := 290) hx hb dX5_readStones_283 (by decide) (fun c64 => ?_) (fun c64 => ?_)
  · have hF := if_p c64 hF
    refine lv_iconst (v := 0) hx hb dX5_readStones_290 (by decide) ?_
    exact b_X5_readStones_291 X _ hk193 _ _ _ _ _ _ _ _ _ _ _ _ hp (lv_sub hl [0, 1, 2, 3, 4, 5, 6] rfl) hF
  · have hF := if_n c64 hF
    refine lv_iconst (v := 1) hx hb dX5_readStones_286 (by decide) ?_
    refine lv_goto (tgt := 291) hx hb dX5_readStones_287 (by decide) ?_
    exact b_X5_readStones_291 X _ hk193 _ _ _ _ _ _ _ _ _ _ _ _ hp (lv_sub hl [0, 1, 2, 3, 4, 5, 6] rfl) hF
def fb_X5_readStones_266 (S : mSh) (k193 : mMm → Nat → Int32 → Int32 → Int32 → Int32 → Int32 → Int32 → Option mMm) (M : mMm) (x0 : Nat) (x3 : Int32) (x4 : Int32) (x5 : Int32) (x6 : Int32) (x7 : Int32) (x8 : Int32) (y0 : Int32) (y1 : Int32) : Option mMm := (if x7 ≤ x5 then (fb_X5_readStones_280 S k193 M x0 x3 x4 x5 x6 x7 x8 x5 y0 y1) else (fb_X5_readStones_280 S k193 M x0 x3 x4 x5 x6 x7 x8 x7 y0 y1))
theorem b_X5_readStones_266 {M' : mMm} (X : mCx D n0 P p m c cX5_readStones 10 s args yX5_readStones.cls meth none) (k193 : mMm → Nat → Int32 → Int32 → Int32 → Int32 → Int32 → Int32 → Option mMm) (hk193 : ∀ (M : mMm) (x0 : Nat) (x3 : Int32) (x4 : Int32) (x5 : Int32) (x6 : Int32) (x7 : Int32) (x8 : Int32) (H : Heap) (locs : List Loc) (ls : Array Slot), mHp D n0 S M n s H locs → lv_has ls 10 [(0, .ref x0), (3, .int x3), (4, .int x4), (5, .int x5), (6, .int x6), (7, .int x7), (8, .int x8)] → k193 M x0 x3 x4 x5 x6 x7 x8 = some M' → W p l e Rm_X5_readStones s m args below meth c H locs 0 0 (MQ below (mQ D n0 none S M' n) args s 0 0 (mA n0)) (F0 m 193 ls [])) : ∀ (M : mMm) (x0 : Nat) (x3 : Int32) (x4 : Int32) (x5 : Int32) (x6 : Int32) (x7 : Int32) (x8 : Int32) (y0 : Int32) (y1 : Int32) (H : Heap) (locs : List Loc) (ls : Array Slot), mHp D n0 S M n s H locs → lv_has ls 10 [(0, .ref x0), (3, .int x3), (4, .int x4), (5, .int x5), (6, .int x6), (7, .int x7), (8, .int x8)] → fb_X5_readStones_266 S k193 M x0 x3 x4 x5 x6 x7 x8 y0 y1 = some M' → W p l e Rm_X5_readStones s m args below meth c H locs 0 0 (MQ below (mQ D n0 none S M' n) args s 0 0 (mA n0)) (F0 m 266 ls [.int y0, .int y1]) := by
  have hx := X.1.1
  have hb := X.1.2.1
  have hown := X.1.2.2.2.1
  have hts := X.1.2.2.2.2
  intro M x0 x3 x4 x5 x6 x7 x8 y0 y1 H locs ls hp hl hF
  unfold fb_X5_readStones_266 at hF
  refine lv_iload hx hb dX5_readStones_266 (lv_at hl 3 rfl) ?_
  refine lv_iload hx hb dX5_readStones_268 (lv_at hl 5 rfl) ?_
  refine lv_icmp_ge (tgt := 278) hx hb dX5_readStones_270 (by decide) (fun c61 => ?_) (fun c61 => ?_)
  · have hF := if_p c61 hF
    refine lv_iload hx hb dX5_readStones_278 (lv_at hl 3 rfl) ?_
    exact b_X5_readStones_280 X _ hk193 _ _ _ _ _ _ _ _ _ _ _ _ _ _ hp (lv_sub hl [0, 1, 2, 3, 4, 5, 6] rfl) hF
  · have hF := if_n c61 hF
    refine lv_iload hx hb dX5_readStones_273 (lv_at hl 5 rfl) ?_
    refine lv_goto (tgt := 280) hx hb dX5_readStones_275 (by decide) ?_
    exact b_X5_readStones_280 X _ hk193 _ _ _ _ _ _ _ _ _ _ _ _ _ _ hp (lv_sub hl [0, 1, 2, 3, 4, 5, 6] rfl) hF
def fb_X5_readStones_241 (S : mSh) (k193 : mMm → Nat → Int32 → Int32 → Int32 → Int32 → Int32 → Int32 → Option mMm) (M : mMm) (x0 : Nat) (x3 : Int32) (x4 : Int32) (x5 : Int32) (x6 : Int32) (x7 : Int32) (x8 : Int32) (y0 : Int32) (y1 : Int32) (y2 : Int32) : Option mMm := ob (f_X5_within y2 y1 y0) fun v58 => (if v58 = 0 then (fb_X5_readStones_291 S k193 M x0 x3 x4 x5 x6 x7 x8 (0 : Int32)) else (if x7 ≤ x5 then (fb_X5_readStones_266 S k193 M x0 x3 x4 x5 x6 x7 x8 x7 (x8 / (12 : Int32))) else (fb_X5_readStones_266 S k193 M x0 x3 x4 x5 x6 x7 x8 x5 (x8 / (12 : Int32)))))
theorem b_X5_readStones_241 {M' : mMm} (X : mCx D n0 P p m c cX5_readStones 10 s args yX5_readStones.cls meth none) (k193 : mMm → Nat → Int32 → Int32 → Int32 → Int32 → Int32 → Int32 → Option mMm) (hk193 : ∀ (M : mMm) (x0 : Nat) (x3 : Int32) (x4 : Int32) (x5 : Int32) (x6 : Int32) (x7 : Int32) (x8 : Int32) (H : Heap) (locs : List Loc) (ls : Array Slot), mHp D n0 S M n s H locs → lv_has ls 10 [(0, .ref x0), (3, .int x3), (4, .int x4), (5, .int x5), (6, .int x6), (7, .int x7), (8, .int x8)] → k193 M x0 x3 x4 x5 x6 x7 x8 = some M' → W p l e Rm_X5_readStones s m args below meth c H locs 0 0 (MQ below (mQ D n0 none S M' n) args s 0 0 (mA n0)) (F0 m 193 ls [])) : ∀ (M : mMm) (x0 : Nat) (x3 : Int32) (x4 : Int32) (x5 : Int32) (x6 : Int32) (x7 : Int32) (x8 : Int32) (y0 : Int32) (y1 : Int32) (y2 : Int32) (H : Heap) (locs : List Loc) (ls : Array Slot), mHp D n0 S M n s H locs → lv_has ls 10 [(0, .ref x0), (3, .int x3), (4, .int x4), (5, .int x5), (6, .int x6), (7, .int x7), (8, .int x8)] → fb_X5_readStones_241 S k193 M x0 x3 x4 x5 x6 x7 x8 y0 y1 y2 = some M' → W p l e Rm_X5_readStones s m args below meth c H locs 0 0 (MQ below (mQ D n0 none S M' n) args s 0 0 (mA n0)) (F0 m 241 ls [.int y0, .int y1, .int y2]) := by
  have hx := X.1.1
  have hb := X.1.2.1
  have hown := X.1.2.2.2.1
  have hts := X.1.2.2.2.2
  intro M x0 x3 x4 x5 x6 x7 x8 y0 y1 y2 H locs ls hp hl hF
  unfold fb_X5_readStones_241 at hF
  obtain ⟨v58, e57, hF⟩ := ob_s hF
  refine m_callS (As := [.int y2, .int y1, .int y0]) (rest := []) X hp (w_X5_within e57) q1588 q1589 q144 q1590 3 rfl ds_X5_within ⟨Nat.le_of_ble_eq_true rfl, Nat.le_of_ble_eq_true rfl⟩ hl.1 rfl (Nat.le_of_ble_eq_true rfl) dX5_readStones_241 ⟨Nat.le_refl 0, Nat.le_refl 0⟩ (fun H locs hp => ?_)
  refine lv_if_eq (tgt := 290) hx hb dX5_readStones_244 (by decide) (fun c59 => ?_) (fun c59 => ?_)
  · have hF := if_p c59 hF
    refine lv_iconst (v := 0) hx hb dX5_readStones_290 (by decide) ?_
    exact b_X5_readStones_291 X _ hk193 _ _ _ _ _ _ _ _ _ _ _ _ hp (lv_sub hl [0, 1, 2, 3, 4, 5, 6] rfl) hF
  · have hF := if_n c59 hF
    refine lv_iload hx hb dX5_readStones_247 (lv_at hl 6 rfl) ?_
    refine lv_bipush (v := 12) hx hb dX5_readStones_249 (by decide) ?_
    refine lv_idiv hx hb dX5_readStones_251 (by decide) ?_
    refine lv_iload hx hb dX5_readStones_252 (lv_at hl 3 rfl) ?_
    refine lv_iload hx hb dX5_readStones_254 (lv_at hl 5 rfl) ?_
    refine lv_icmp_ge (tgt := 264) hx hb dX5_readStones_256 (by decide) (fun c60 => ?_) (fun c60 => ?_)
    · have hF := if_p c60 hF
      refine lv_iload hx hb dX5_readStones_264 (lv_at hl 5 rfl) ?_
      exact b_X5_readStones_266 X _ hk193 _ _ _ _ _ _ _ _ _ _ _ _ _ hp (lv_sub hl [0, 1, 2, 3, 4, 5, 6] rfl) hF
    · have hF := if_n c60 hF
      refine lv_iload hx hb dX5_readStones_259 (lv_at hl 3 rfl) ?_
      refine lv_goto (tgt := 266) hx hb dX5_readStones_261 (by decide) ?_
      exact b_X5_readStones_266 X _ hk193 _ _ _ _ _ _ _ _ _ _ _ _ _ hp (lv_sub hl [0, 1, 2, 3, 4, 5, 6] rfl) hF
def fb_X5_readStones_227 (S : mSh) (k193 : mMm → Nat → Int32 → Int32 → Int32 → Int32 → Int32 → Int32 → Option mMm) (M : mMm) (x0 : Nat) (x3 : Int32) (x4 : Int32) (x5 : Int32) (x6 : Int32) (x7 : Int32) (x8 : Int32) (y0 : Int32) (y1 : Int32) : Option mMm := (if x6 ≤ x4 then (fb_X5_readStones_241 S k193 M x0 x3 x4 x5 x6 x7 x8 x4 y0 y1) else (fb_X5_readStones_241 S k193 M x0 x3 x4 x5 x6 x7 x8 x6 y0 y1))
theorem b_X5_readStones_227 {M' : mMm} (X : mCx D n0 P p m c cX5_readStones 10 s args yX5_readStones.cls meth none) (k193 : mMm → Nat → Int32 → Int32 → Int32 → Int32 → Int32 → Int32 → Option mMm) (hk193 : ∀ (M : mMm) (x0 : Nat) (x3 : Int32) (x4 : Int32) (x5 : Int32) (x6 : Int32) (x7 : Int32) (x8 : Int32) (H : Heap) (locs : List Loc) (ls : Array Slot), mHp D n0 S M n s H locs → lv_has ls 10 [(0, .ref x0), (3, .int x3), (4, .int x4), (5, .int x5), (6, .int x6), (7, .int x7), (8, .int x8)] → k193 M x0 x3 x4 x5 x6 x7 x8 = some M' → W p l e Rm_X5_readStones s m args below meth c H locs 0 0 (MQ below (mQ D n0 none S M' n) args s 0 0 (mA n0)) (F0 m 193 ls [])) : ∀ (M : mMm) (x0 : Nat) (x3 : Int32) (x4 : Int32) (x5 : Int32) (x6 : Int32) (x7 : Int32) (x8 : Int32) (y0 : Int32) (y1 : Int32) (H : Heap) (locs : List Loc) (ls : Array Slot), mHp D n0 S M n s H locs → lv_has ls 10 [(0, .ref x0), (3, .int x3), (4, .int x4), (5, .int x5), (6, .int x6), (7, .int x7), (8, .int x8)] → fb_X5_readStones_227 S k193 M x0 x3 x4 x5 x6 x7 x8 y0 y1 = some M' → W p l e Rm_X5_readStones s m args below meth c H locs 0 0 (MQ below (mQ D n0 none S M' n) args s 0 0 (mA n0)) (F0 m 227 ls [.int y0, .int y1]) := by
  have hx := X.1.1
  have hb := X.1.2.1
  have hown := X.1.2.2.2.1
  have hts := X.1.2.2.2.2
  intro M x0 x3 x4 x5 x6 x7 x8 y0 y1 H locs ls hp hl hF
  unfold fb_X5_readStones_227 at hF
  refine lv_iload hx hb dX5_readStones_227 (lv_at hl 2 rfl) ?_
  refine lv_iload hx hb dX5_readStones_229 (lv_at hl 4 rfl) ?_
  refine lv_icmp_ge (tgt := 239) hx hb dX5_readStones_231 (by decide) (fun c56 => ?_) (fun c56 => ?_)
  · have hF := if_p c56 hF
    refine lv_iload hx hb dX5_readStones_239 (lv_at hl 2 rfl) ?_
    exact b_X5_readStones_241 X _ hk193 _ _ _ _ _ _ _ _ _ _ _ _ _ _ hp (lv_sub hl [0, 1, 2, 3, 4, 5, 6] rfl) hF
  · have hF := if_n c56 hF
    refine lv_iload hx hb dX5_readStones_234 (lv_at hl 4 rfl) ?_
    refine lv_goto (tgt := 241) hx hb dX5_readStones_236 (by decide) ?_
    exact b_X5_readStones_241 X _ hk193 _ _ _ _ _ _ _ _ _ _ _ _ _ _ hp (lv_sub hl [0, 1, 2, 3, 4, 5, 6] rfl) hF
def fb_X5_readStones_193 (S : mSh) : Nat → mMm → Nat → Int32 → Int32 → Int32 → Int32 → Int32 → Int32 → Option mMm
  | 0, _, _, _, _, _, _, _, _ => none
  | t + 1, M, x0, x3, x4, x5, x6, x7, x8 => (if (144 : Int32) ≤ x8 then some M else gd ((S x0).1 = 6) (ob (f_X5_fine S M x0) fun v53 => (if v53 = 0 then some M else (if x6 ≤ x4 then (fb_X5_readStones_227 S (fb_X5_readStones_193 S t) M x0 x3 x4 x5 x6 x7 x8 x6 (x8 - x8 / (12 : Int32) * (12 : Int32))) else (fb_X5_readStones_227 S (fb_X5_readStones_193 S t) M x0 x3 x4 x5 x6 x7 x8 x4 (x8 - x8 / (12 : Int32) * (12 : Int32)))))))
theorem b_X5_readStones_193 {M' : mMm} (X : mCx D n0 P p m c cX5_readStones 10 s args yX5_readStones.cls meth none) : ∀ t : Nat, ∀ (M : mMm) (x0 : Nat) (x3 : Int32) (x4 : Int32) (x5 : Int32) (x6 : Int32) (x7 : Int32) (x8 : Int32) (H : Heap) (locs : List Loc) (ls : Array Slot), mHp D n0 S M n s H locs → lv_has ls 10 [(0, .ref x0), (3, .int x3), (4, .int x4), (5, .int x5), (6, .int x6), (7, .int x7), (8, .int x8)] → fb_X5_readStones_193 S t M x0 x3 x4 x5 x6 x7 x8 = some M' → W p l e Rm_X5_readStones s m args below meth c H locs 0 0 (MQ below (mQ D n0 none S M' n) args s 0 0 (mA n0)) (F0 m 193 ls []) := by
  have hx := X.1.1
  have hb := X.1.2.1
  have hown := X.1.2.2.2.1
  have hts := X.1.2.2.2.2
  intro t
  induction t with
  | zero =>
    intro M x0 x3 x4 x5 x6 x7 x8 H locs ls hp hl hF
    have hF : none = some M' := hF
    cases hF
  | succ t ih =>
    intro M x0 x3 x4 x5 x6 x7 x8 H locs ls hp hl hF
    rw [fb_X5_readStones_193] at hF
    refine lv_iload hx hb dX5_readStones_193 (lv_at hl 6 rfl) ?_
    refine lv_sipush (v := 144) hx hb dX5_readStones_195 (by decide) ?_
    refine lv_icmp_ge (tgt := 322) hx hb dX5_readStones_198 (by decide) (fun c50 => ?_) (fun c50 => ?_)
    · have hF := if_p c50 hF
      cases hF
      exact m_vret X hp dX5_readStones_322
    · have hF := if_n c50 hF
      refine lv_aload_n hx hb dX5_readStones_201 rfl (lv_at hl 0 rfl) ?_
      obtain ⟨g51, hF⟩ := gd_s hF
      obtain ⟨v53, e52, hF⟩ := ob_s hF
      refine m_callV (As := []) (rest := []) X hp (w_X5_fine e52) q1598 q1600 qs64 q144 q1601 0 rfl ds_X5_fine ⟨Nat.le_of_ble_eq_true rfl, Nat.le_of_ble_eq_true rfl⟩ 6 (T := TX5) (N := 40) rfl (by decide) g51 hl.1 rfl (Nat.le_of_ble_eq_true rfl) dX5_readStones_202 ⟨Nat.le_refl 0, Nat.le_refl 0⟩ (fun H locs hp => ?_)
      refine lv_if_eq (tgt := 322) hx hb dX5_readStones_205 (by decide) (fun c54 => ?_) (fun c54 => ?_)
      · have hF := if_p c54 hF
        cases hF
        exact m_vret X hp dX5_readStones_322
      · have hF := if_n c54 hF
        refine lv_iload hx hb dX5_readStones_208 (lv_at hl 6 rfl) ?_
        refine lv_bipush (v := 12) hx hb dX5_readStones_210 (by decide) ?_
        refine lv_irem hx hb dX5_readStones_212 (by decide) ?_
        refine lv_iload hx hb dX5_readStones_213 (lv_at hl 2 rfl) ?_
        refine lv_iload hx hb dX5_readStones_215 (lv_at hl 4 rfl) ?_
        refine lv_icmp_ge (tgt := 225) hx hb dX5_readStones_217 (by decide) (fun c55 => ?_) (fun c55 => ?_)
        · have hF := if_p c55 hF
          refine lv_iload hx hb dX5_readStones_225 (lv_at hl 4 rfl) ?_
          exact b_X5_readStones_227 X _ ih _ _ _ _ _ _ _ _ _ _ _ _ _ hp (lv_sub hl [0, 1, 2, 3, 4, 5, 6] rfl) hF
        · have hF := if_n c55 hF
          refine lv_iload hx hb dX5_readStones_220 (lv_at hl 2 rfl) ?_
          refine lv_goto (tgt := 227) hx hb dX5_readStones_222 (by decide) ?_
          exact b_X5_readStones_227 X _ ih _ _ _ _ _ _ _ _ _ _ _ _ _ hp (lv_sub hl [0, 1, 2, 3, 4, 5, 6] rfl) hF
def fb_X5_readStones_190 (S : mSh) (M : mMm) (x0 : Nat) (x3 : Int32) (x4 : Int32) (x5 : Int32) (x6 : Int32) (x7 : Int32) : Option mMm := nm ((0 : Int32)) fun v48 => (fb_X5_readStones_193 S FU M x0 x3 x4 x5 x6 x7 v48)
theorem b_X5_readStones_190 {M' : mMm} (X : mCx D n0 P p m c cX5_readStones 10 s args yX5_readStones.cls meth none) : ∀ (M : mMm) (x0 : Nat) (x3 : Int32) (x4 : Int32) (x5 : Int32) (x6 : Int32) (x7 : Int32) (H : Heap) (locs : List Loc) (ls : Array Slot), mHp D n0 S M n s H locs → lv_has ls 10 [(0, .ref x0), (3, .int x3), (4, .int x4), (5, .int x5), (6, .int x6), (7, .int x7)] → fb_X5_readStones_190 S M x0 x3 x4 x5 x6 x7 = some M' → W p l e Rm_X5_readStones s m args below meth c H locs 0 0 (MQ below (mQ D n0 none S M' n) args s 0 0 (mA n0)) (F0 m 190 ls []) := by
  have hx := X.1.1
  have hb := X.1.2.1
  have hown := X.1.2.2.2.1
  have hts := X.1.2.2.2.2
  intro M x0 x3 x4 x5 x6 x7 H locs ls hp hl hF
  unfold fb_X5_readStones_190 at hF
  refine lv_iconst (v := 0) hx hb dX5_readStones_190 (by decide) ?_
  refine lv_topi (fun v48 ev49 => ?_)
  have hF := nm_s hF ev49
  refine lv_istore (lv' := [(8, .int v48), (0, .ref x0), (3, .int x3), (4, .int x4), (5, .int x5), (6, .int x6), (7, .int x7)]) hx hb dX5_readStones_191 hl (by decide) rfl (fun ls hl => ?_)
  exact b_X5_readStones_193 X _ _ _ _ _ _ _ _ _ _ _ _ hp (lv_sub hl [1, 2, 3, 4, 5, 6, 0] rfl) hF
def fb_X5_readStones_114 (S : mSh) (M : mMm) (x0 : Nat) (x3 : Int32) (y0 : Int32) (y1 : Int32) (y2 : Nat) : Option mMm := gd ((S y2).1 = 6) (ob (f_X5_mayBegin S M y2 y1 y0) fun M22 => gd ((S x0).1 = 6) (ob (f_X5_number S M22 x0 (0 : Int32) (11 : Int32)) fun ⟨v25, M26⟩ => ob (f_X5_number S M26 x0 (0 : Int32) (11 : Int32)) fun ⟨v28, M29⟩ => ob (f_X5_fine S M29 x0) fun v31 => (if v31 = 0 then (fb_X5_readStones_190 S M29 x0 x3 v25 v28 v25 v28) else ob (f_X5_word S M29 x0) fun ⟨v34, M35⟩ => ob (f_X5_spelt (116 : Int32) (111 : Int32) (0 : Int32) (0 : Int32) (0 : Int32) (0 : Int32)) fun v37 => (if v34 = v37 then ob (f_X5_pass S M35 x0) fun M41 => ob (f_X5_number S M41 x0 (0 : Int32) (11 : Int32)) fun ⟨v43, M44⟩ => ob (f_X5_number S M44 x0 (0 : Int32) (11 : Int32)) fun ⟨v46, M47⟩ => (fb_X5_readStones_190 S M47 x0 x3 v25 v28 v43 v46) else (fb_X5_readStones_190 S M35 x0 x3 v25 v28 v25 v28)))))
theorem b_X5_readStones_114 {M' : mMm} (X : mCx D n0 P p m c cX5_readStones 10 s args yX5_readStones.cls meth none) : ∀ (M : mMm) (x0 : Nat) (x3 : Int32) (y0 : Int32) (y1 : Int32) (y2 : Nat) (H : Heap) (locs : List Loc) (ls : Array Slot), mHp D n0 S M n s H locs → lv_has ls 10 [(0, .ref x0), (3, .int x3)] → fb_X5_readStones_114 S M x0 x3 y0 y1 y2 = some M' → W p l e Rm_X5_readStones s m args below meth c H locs 0 0 (MQ below (mQ D n0 none S M' n) args s 0 0 (mA n0)) (F0 m 114 ls [.int y0, .int y1, .ref y2]) := by
  have hx := X.1.1
  have hb := X.1.2.1
  have hown := X.1.2.2.2.1
  have hts := X.1.2.2.2.2
  intro M x0 x3 y0 y1 y2 H locs ls hp hl hF
  unfold fb_X5_readStones_114 at hF
  obtain ⟨g19, hF⟩ := gd_s hF
  obtain ⟨M22, e20, hF⟩ := ob_s hF
  refine m_callV (As := [.int y1, .int y0]) (rest := []) X hp (w_X5_mayBegin e20) q1623 q1625 qs68 q144 q1626 2 rfl ds_X5_mayBegin ⟨Nat.le_of_ble_eq_true rfl, Nat.le_of_ble_eq_true rfl⟩ 6 (T := TX5) (N := 40) rfl (by decide) g19 hl.1 rfl (Nat.le_of_ble_eq_true rfl) dX5_readStones_114 ⟨Nat.le_refl 0, Nat.le_refl 0⟩ (fun H locs hp => ?_)
  refine lv_aload_n hx hb dX5_readStones_117 rfl (lv_at hl 0 rfl) ?_
  refine lv_iconst (v := 0) hx hb dX5_readStones_118 (by decide) ?_
  refine lv_bipush (v := 11) hx hb dX5_readStones_119 (by decide) ?_
  obtain ⟨g23, hF⟩ := gd_s hF
  obtain ⟨⟨v25, M26⟩, e24, hF⟩ := ob_s hF
  refine m_callV (As := [.int (0 : Int32), .int (11 : Int32)]) (rest := []) X hp (w_X5_number e24) q1650 q1652 qs74 q144 q1653 2 rfl ds_X5_number ⟨Nat.le_of_ble_eq_true rfl, Nat.le_of_ble_eq_true rfl⟩ 6 (T := TX5) (N := 40) rfl (by decide) g23 hl.1 rfl (Nat.le_of_ble_eq_true rfl) dX5_readStones_121 ⟨Nat.le_refl 0, Nat.le_refl 0⟩ (fun H locs hp => ?_)
  refine lv_istore (lv' := [(4, .int v25), (0, .ref x0), (3, .int x3)]) hx hb dX5_readStones_124 hl (by decide) rfl (fun ls hl => ?_)
  refine lv_aload_n hx hb dX5_readStones_126 rfl (lv_at hl 1 rfl) ?_
  refine lv_iconst (v := 0) hx hb dX5_readStones_127 (by decide) ?_
  refine lv_bipush (v := 11) hx hb dX5_readStones_128 (by decide) ?_
  obtain ⟨⟨v28, M29⟩, e27, hF⟩ := ob_s hF
  refine m_callV (As := [.int (0 : Int32), .int (11 : Int32)]) (rest := []) X hp (w_X5_number e27) q1650 q1652 qs74 q144 q1653 2 rfl ds_X5_number ⟨Nat.le_of_ble_eq_true rfl, Nat.le_of_ble_eq_true rfl⟩ 6 (T := TX5) (N := 40) rfl (by decide) g23 hl.1 rfl (Nat.le_of_ble_eq_true rfl) dX5_readStones_130 ⟨Nat.le_refl 0, Nat.le_refl 0⟩ (fun H locs hp => ?_)
  refine lv_istore (lv' := [(5, .int v28), (4, .int v25), (0, .ref x0), (3, .int x3)]) hx hb dX5_readStones_133 hl (by decide) rfl (fun ls hl => ?_)
  refine lv_iload hx hb dX5_readStones_135 (lv_at hl 1 rfl) ?_
  refine lv_istore (lv' := [(6, .int v25), (5, .int v28), (4, .int v25), (0, .ref x0), (3, .int x3)]) hx hb dX5_readStones_137 hl (by decide) rfl (fun ls hl => ?_)
  refine lv_iload hx hb dX5_readStones_139 (lv_at hl 1 rfl) ?_
  refine lv_istore (lv' := [(7, .int v28), (6, .int v25), (5, .int v28), (4, .int v25), (0, .ref x0), (3, .int x3)]) hx hb dX5_readStones_141 hl (by decide) rfl (fun ls hl => ?_)
  refine lv_aload_n hx hb dX5_readStones_143 rfl (lv_at hl 4 rfl) ?_
  obtain ⟨v31, e30, hF⟩ := ob_s hF
  refine m_callV (As := []) (rest := []) X hp (w_X5_fine e30) q1598 q1600 qs64 q144 q1601 0 rfl ds_X5_fine ⟨Nat.le_of_ble_eq_true rfl, Nat.le_of_ble_eq_true rfl⟩ 6 (T := TX5) (N := 40) rfl (by decide) g23 hl.1 rfl (Nat.le_of_ble_eq_true rfl) dX5_readStones_144 ⟨Nat.le_refl 0, Nat.le_refl 0⟩ (fun H locs hp => ?_)
  refine lv_if_eq (tgt := 190) hx hb dX5_readStones_147 (by decide) (fun c32 => ?_) (fun c32 => ?_)
  · have hF := if_p c32 hF
    exact b_X5_readStones_190 X _ _ _ _ _ _ _ _ _ _ hp (lv_sub hl [4, 5, 3, 2, 1, 0] rfl) hF
  · have hF := if_n c32 hF
    refine lv_aload_n hx hb dX5_readStones_150 rfl (lv_at hl 4 rfl) ?_
    obtain ⟨⟨v34, M35⟩, e33, hF⟩ := ob_s hF
    refine m_callV (As := []) (rest := []) X hp (w_X5_word e33) q1610 q1612 qs67 q144 q1613 0 rfl ds_X5_word ⟨Nat.le_of_ble_eq_true rfl, Nat.le_of_ble_eq_true rfl⟩ 6 (T := TX5) (N := 40) rfl (by decide) g23 hl.1 rfl (Nat.le_of_ble_eq_true rfl) dX5_readStones_151 ⟨Nat.le_refl 0, Nat.le_refl 0⟩ (fun H locs hp => ?_)
    refine lv_bipush (v := 116) hx hb dX5_readStones_154 (by decide) ?_
    refine lv_bipush (v := 111) hx hb dX5_readStones_156 (by decide) ?_
    refine lv_iconst (v := 0) hx hb dX5_readStones_158 (by decide) ?_
    refine lv_iconst (v := 0) hx hb dX5_readStones_159 (by decide) ?_
    refine lv_iconst (v := 0) hx hb dX5_readStones_160 (by decide) ?_
    refine lv_iconst (v := 0) hx hb dX5_readStones_161 (by decide) ?_
    obtain ⟨v37, e36, hF⟩ := ob_s hF
    refine m_callS (As := [.int (116 : Int32), .int (111 : Int32), .int (0 : Int32), .int (0 : Int32), .int (0 : Int32), .int (0 : Int32)]) (rest := [.int v34]) X hp (w_X5_spelt e36) q1620 q1621 q144 q1622 6 rfl ds_X5_spelt ⟨Nat.le_of_ble_eq_true rfl, Nat.le_of_ble_eq_true rfl⟩ hl.1 rfl (Nat.le_of_ble_eq_true rfl) dX5_readStones_162 ⟨Nat.le_refl 0, Nat.le_refl 0⟩ (fun H locs hp => ?_)
    refine lv_icmp_ne (tgt := 190) hx hb dX5_readStones_165 (by decide) (fun c38 => ?_) (fun c38 => ?_)
    · have hF := if_n c38 hF
      exact b_X5_readStones_190 X _ _ _ _ _ _ _ _ _ _ hp (lv_sub hl [4, 5, 3, 2, 1, 0] rfl) hF
    · have hF := if_p c38 hF
      refine lv_aload_n hx hb dX5_readStones_168 rfl (lv_at hl 4 rfl) ?_
      obtain ⟨M41, e39, hF⟩ := ob_s hF
      refine m_callV (As := []) (rest := []) X hp (w_X5_pass e39) q1631 q1633 qs70 q144 q1634 0 rfl ds_X5_pass ⟨Nat.le_of_ble_eq_true rfl, Nat.le_of_ble_eq_true rfl⟩ 6 (T := TX5) (N := 40) rfl (by decide) g23 hl.1 rfl (Nat.le_of_ble_eq_true rfl) dX5_readStones_169 ⟨Nat.le_refl 0, Nat.le_refl 0⟩ (fun H locs hp => ?_)
      refine lv_aload_n hx hb dX5_readStones_172 rfl (lv_at hl 4 rfl) ?_
      refine lv_iconst (v := 0) hx hb dX5_readStones_173 (by decide) ?_
      refine lv_bipush (v := 11) hx hb dX5_readStones_174 (by decide) ?_
      obtain ⟨⟨v43, M44⟩, e42, hF⟩ := ob_s hF
      refine m_callV (As := [.int (0 : Int32), .int (11 : Int32)]) (rest := []) X hp (w_X5_number e42) q1650 q1652 qs74 q144 q1653 2 rfl ds_X5_number ⟨Nat.le_of_ble_eq_true rfl, Nat.le_of_ble_eq_true rfl⟩ 6 (T := TX5) (N := 40) rfl (by decide) g23 hl.1 rfl (Nat.le_of_ble_eq_true rfl) dX5_readStones_176 ⟨Nat.le_refl 0, Nat.le_refl 0⟩ (fun H locs hp => ?_)
      refine lv_istore (lv' := [(6, .int v43), (7, .int v28), (5, .int v28), (4, .int v25), (0, .ref x0), (3, .int x3)]) hx hb dX5_readStones_179 hl (by decide) rfl (fun ls hl => ?_)
      refine lv_aload_n hx hb dX5_readStones_181 rfl (lv_at hl 4 rfl) ?_
      refine lv_iconst (v := 0) hx hb dX5_readStones_182 (by decide) ?_
      refine lv_bipush (v := 11) hx hb dX5_readStones_183 (by decide) ?_
      obtain ⟨⟨v46, M47⟩, e45, hF⟩ := ob_s hF
      refine m_callV (As := [.int (0 : Int32), .int (11 : Int32)]) (rest := []) X hp (w_X5_number e45) q1650 q1652 qs74 q144 q1653 2 rfl ds_X5_number ⟨Nat.le_of_ble_eq_true rfl, Nat.le_of_ble_eq_true rfl⟩ 6 (T := TX5) (N := 40) rfl (by decide) g23 hl.1 rfl (Nat.le_of_ble_eq_true rfl) dX5_readStones_185 ⟨Nat.le_refl 0, Nat.le_refl 0⟩ (fun H locs hp => ?_)
      refine lv_istore (lv' := [(7, .int v46), (6, .int v43), (5, .int v28), (4, .int v25), (0, .ref x0), (3, .int x3)]) hx hb dX5_readStones_188 hl (by decide) rfl (fun ls hl => ?_)
      exact b_X5_readStones_190 X _ _ _ _ _ _ _ _ _ _ hp (lv_sub hl [4, 5, 3, 2, 1, 0] rfl) hF
def fb_X5_readStones_103 (S : mSh) (M : mMm) (x0 : Nat) (x1 : Int32) (x3 : Int32) (y0 : Int32) (y1 : Nat) : Option mMm := (if x1 = (16 : Int32) then (fb_X5_readStones_114 S M x0 x3 (1 : Int32) y0 y1) else (fb_X5_readStones_114 S M x0 x3 (0 : Int32) y0 y1))
theorem b_X5_readStones_103 {M' : mMm} (X : mCx D n0 P p m c cX5_readStones 10 s args yX5_readStones.cls meth none) : ∀ (M : mMm) (x0 : Nat) (x1 : Int32) (x3 : Int32) (y0 : Int32) (y1 : Nat) (H : Heap) (locs : List Loc) (ls : Array Slot), mHp D n0 S M n s H locs → lv_has ls 10 [(0, .ref x0), (1, .int x1), (3, .int x3)] → fb_X5_readStones_103 S M x0 x1 x3 y0 y1 = some M' → W p l e Rm_X5_readStones s m args below meth c H locs 0 0 (MQ below (mQ D n0 none S M' n) args s 0 0 (mA n0)) (F0 m 103 ls [.int y0, .ref y1]) := by
  have hx := X.1.1
  have hb := X.1.2.1
  have hown := X.1.2.2.2.1
  have hts := X.1.2.2.2.2
  intro M x0 x1 x3 y0 y1 H locs ls hp hl hF
  unfold fb_X5_readStones_103 at hF
  refine lv_iload_n hx hb dX5_readStones_103 rfl (lv_at hl 1 rfl) ?_
  refine lv_bipush (v := 16) hx hb dX5_readStones_104 (by decide) ?_
  refine lv_icmp_ne (tgt := 113) hx hb dX5_readStones_106 (by decide) (fun c18 => ?_) (fun c18 => ?_)
  · have hF := if_n c18 hF
    refine lv_iconst (v := 0) hx hb dX5_readStones_113 (by decide) ?_
    exact b_X5_readStones_114 X _ _ _ _ _ _ _ _ _ hp (lv_sub hl [0, 2] rfl) hF
  · have hF := if_p c18 hF
    refine lv_iconst (v := 1) hx hb dX5_readStones_109 (by decide) ?_
    refine lv_goto (tgt := 114) hx hb dX5_readStones_110 (by decide) ?_
    exact b_X5_readStones_114 X _ _ _ _ _ _ _ _ _ hp (lv_sub hl [0, 2] rfl) hF
def fb_X5_readStones_91 (S : mSh) (M : mMm) (x0 : Nat) (x1 : Int32) (y0 : Int32) : Option mMm := (if y0 = (-1 : Int32) then (fb_X5_readStones_103 S M x0 x1 y0 (0 : Int32) x0) else (fb_X5_readStones_103 S M x0 x1 y0 (1 : Int32) x0))
theorem b_X5_readStones_91 {M' : mMm} (X : mCx D n0 P p m c cX5_readStones 10 s args yX5_readStones.cls meth none) : ∀ (M : mMm) (x0 : Nat) (x1 : Int32) (y0 : Int32) (H : Heap) (locs : List Loc) (ls : Array Slot), mHp D n0 S M n s H locs → lv_has ls 10 [(0, .ref x0), (1, .int x1)] → fb_X5_readStones_91 S M x0 x1 y0 = some M' → W p l e Rm_X5_readStones s m args below meth c H locs 0 0 (MQ below (mQ D n0 none S M' n) args s 0 0 (mA n0)) (F0 m 91 ls [.int y0]) := by
  have hx := X.1.1
  have hb := X.1.2.1
  have hown := X.1.2.2.2.1
  have hts := X.1.2.2.2.2
  intro M x0 x1 y0 H locs ls hp hl hF
  unfold fb_X5_readStones_91 at hF
  refine lv_istore_n (lv' := [(3, .int y0), (0, .ref x0), (1, .int x1)]) hx hb dX5_readStones_91 rfl hl (by decide) rfl (fun ls hl => ?_)
  refine lv_aload_n hx hb dX5_readStones_92 rfl (lv_at hl 1 rfl) ?_
  refine lv_iload_n hx hb dX5_readStones_93 rfl (lv_at hl 0 rfl) ?_
  refine lv_iconst (v := -1) hx hb dX5_readStones_94 (by decide) ?_
  refine lv_icmp_eq (tgt := 102) hx hb dX5_readStones_95 (by decide) (fun c17 => ?_) (fun c17 => ?_)
  · have hF := if_p c17 hF
    refine lv_iconst (v := 0) hx hb dX5_readStones_102 (by decide) ?_
    exact b_X5_readStones_103 X _ _ _ _ _ _ _ _ _ hp (lv_sub hl [1, 2, 0] rfl) hF
  · have hF := if_n c17 hF
    refine lv_iconst (v := 1) hx hb dX5_readStones_98 (by decide) ?_
    refine lv_goto (tgt := 103) hx hb dX5_readStones_99 (by decide) ?_
    exact b_X5_readStones_103 X _ _ _ _ _ _ _ _ _ hp (lv_sub hl [1, 2, 0] rfl) hF
def f_X5_readStones (S : mSh) (M : mMm) (x0 : Nat) (x1 : Int32) : Option mMm := gd ((S x0).1 = 6) (ob (f_X5_word S M x0) fun ⟨v3, M4⟩ => ob (f_X5_spelt (115 : Int32) (116 : Int32) (111 : Int32) (110 : Int32) (101 : Int32) (0 : Int32)) fun v6 => (if v3 = v6 then (fb_X5_readStones_91 S M4 x0 x1 (1 : Int32)) else ob (f_X5_spelt (115 : Int32) (110 : Int32) (111 : Int32) (119 : Int32) (0 : Int32) (0 : Int32)) fun v9 => (if v3 = v9 then (fb_X5_readStones_91 S M4 x0 x1 (2 : Int32)) else ob (f_X5_spelt (115 : Int32) (105 : Int32) (103 : Int32) (110 : Int32) (0 : Int32) (0 : Int32)) fun v12 => (if v3 = v12 then (fb_X5_readStones_91 S M4 x0 x1 (3 : Int32)) else ob (f_X5_spelt (98 : Int32) (97 : Int32) (114 : Int32) (101 : Int32) (0 : Int32) (0 : Int32)) fun v15 => (if v3 = v15 then (fb_X5_readStones_91 S M4 x0 x1 (0 : Int32)) else (fb_X5_readStones_91 S M4 x0 x1 (-1 : Int32)))))))
theorem w_X5_readStones {x0 : Nat} {x1 : Int32} {M' : mMm} (hF : f_X5_readStones S M x0 x1 = some M') : mCt l D n0 P yX5_readStones cX5_readStones 10 none 3 62 0 0 [.ref x0, .int x1] S M n none S M' n := by
  refine m_ofW (by decide) (Nat.le_of_ble_eq_true rfl) (fun p e s m below meth c X hnm hp ls hl => ?_)
  have hx := X.1.1
  have hb := X.1.2.1
  have hown := X.1.2.2.2.1
  have hts := X.1.2.2.2.2
  have hl : lv_has ls 10 [(0, .ref x0), (1, .int x1)] := hl
  unfold f_X5_readStones at hF
  refine lv_aload_n hx hb dX5_readStones_0 rfl (lv_at hl 0 rfl) ?_
  obtain ⟨g1, hF⟩ := gd_s hF
  obtain ⟨⟨v3, M4⟩, e2, hF⟩ := ob_s hF
  refine m_callV (As := []) (rest := []) X hp (w_X5_word e2) q1610 q1612 qs67 q144 q1613 0 rfl ds_X5_word ⟨Nat.le_of_ble_eq_true rfl, Nat.le_of_ble_eq_true rfl⟩ 6 (T := TX5) (N := 40) rfl (by decide) g1 hl.1 rfl (Nat.le_of_ble_eq_true rfl) dX5_readStones_1 ⟨Nat.le_refl 0, Nat.le_refl 0⟩ (fun H locs hp => ?_)
  refine lv_istore_n (lv' := [(2, .int v3), (0, .ref x0), (1, .int x1)]) hx hb dX5_readStones_4 rfl hl (by decide) rfl (fun ls hl => ?_)
  refine lv_iload_n hx hb dX5_readStones_5 rfl (lv_at hl 0 rfl) ?_
  refine lv_bipush (v := 115) hx hb dX5_readStones_6 (by decide) ?_
  refine lv_bipush (v := 116) hx hb dX5_readStones_8 (by decide) ?_
  refine lv_bipush (v := 111) hx hb dX5_readStones_10 (by decide) ?_
  refine lv_bipush (v := 110) hx hb dX5_readStones_12 (by decide) ?_
  refine lv_bipush (v := 101) hx hb dX5_readStones_14 (by decide) ?_
  refine lv_iconst (v := 0) hx hb dX5_readStones_16 (by decide) ?_
  obtain ⟨v6, e5, hF⟩ := ob_s hF
  refine m_callS (As := [.int (115 : Int32), .int (116 : Int32), .int (111 : Int32), .int (110 : Int32), .int (101 : Int32), .int (0 : Int32)]) (rest := [.int v3]) X hp (w_X5_spelt e5) q1620 q1621 q144 q1622 6 rfl ds_X5_spelt ⟨Nat.le_of_ble_eq_true rfl, Nat.le_of_ble_eq_true rfl⟩ hl.1 rfl (Nat.le_of_ble_eq_true rfl) dX5_readStones_17 ⟨Nat.le_refl 0, Nat.le_refl 0⟩ (fun H locs hp => ?_)
  refine lv_icmp_ne (tgt := 27) hx hb dX5_readStones_20 (by decide) (fun c7 => ?_) (fun c7 => ?_)
  · have hF := if_n c7 hF
    refine lv_iload_n hx hb dX5_readStones_27 rfl (lv_at hl 0 rfl) ?_
    refine lv_bipush (v := 115) hx hb dX5_readStones_28 (by decide) ?_
    refine lv_bipush (v := 110) hx hb dX5_readStones_30 (by decide) ?_
    refine lv_bipush (v := 111) hx hb dX5_readStones_32 (by decide) ?_
    refine lv_bipush (v := 119) hx hb dX5_readStones_34 (by decide) ?_
    refine lv_iconst (v := 0) hx hb dX5_readStones_36 (by decide) ?_
    refine lv_iconst (v := 0) hx hb dX5_readStones_37 (by decide) ?_
    obtain ⟨v9, e8, hF⟩ := ob_s hF
    refine m_callS (As := [.int (115 : Int32), .int (110 : Int32), .int (111 : Int32), .int (119 : Int32), .int (0 : Int32), .int (0 : Int32)]) (rest := [.int v3]) X hp (w_X5_spelt e8) q1620 q1621 q144 q1622 6 rfl ds_X5_spelt ⟨Nat.le_of_ble_eq_true rfl, Nat.le_of_ble_eq_true rfl⟩ hl.1 rfl (Nat.le_of_ble_eq_true rfl) dX5_readStones_38 ⟨Nat.le_refl 0, Nat.le_refl 0⟩ (fun H locs hp => ?_)
    refine lv_icmp_ne (tgt := 48) hx hb dX5_readStones_41 (by decide) (fun c10 => ?_) (fun c10 => ?_)
    · have hF := if_n c10 hF
      refine lv_iload_n hx hb dX5_readStones_48 rfl (lv_at hl 0 rfl) ?_
      refine lv_bipush (v := 115) hx hb dX5_readStones_49 (by decide) ?_
      refine lv_bipush (v := 105) hx hb dX5_readStones_51 (by decide) ?_
      refine lv_bipush (v := 103) hx hb dX5_readStones_53 (by decide) ?_
      refine lv_bipush (v := 110) hx hb dX5_readStones_55 (by decide) ?_
      refine lv_iconst (v := 0) hx hb dX5_readStones_57 (by decide) ?_
      refine lv_iconst (v := 0) hx hb dX5_readStones_58 (by decide) ?_
      obtain ⟨v12, e11, hF⟩ := ob_s hF
      refine m_callS (As := [.int (115 : Int32), .int (105 : Int32), .int (103 : Int32), .int (110 : Int32), .int (0 : Int32), .int (0 : Int32)]) (rest := [.int v3]) X hp (w_X5_spelt e11) q1620 q1621 q144 q1622 6 rfl ds_X5_spelt ⟨Nat.le_of_ble_eq_true rfl, Nat.le_of_ble_eq_true rfl⟩ hl.1 rfl (Nat.le_of_ble_eq_true rfl) dX5_readStones_59 ⟨Nat.le_refl 0, Nat.le_refl 0⟩ (fun H locs hp => ?_)
      refine lv_icmp_ne (tgt := 69) hx hb dX5_readStones_62 (by decide) (fun c13 => ?_) (fun c13 => ?_)
      · have hF := if_n c13 hF
        refine lv_iload_n hx hb dX5_readStones_69 rfl (lv_at hl 0 rfl) ?_
        refine lv_bipush (v := 98) hx hb dX5_readStones_70 (by decide) ?_
        refine lv_bipush (v := 97) hx hb dX5_readStones_72 (by decide) ?_
        refine lv_bipush (v := 114) hx hb dX5_readStones_74 (by decide) ?_
        refine lv_bipush (v := 101) hx hb dX5_readStones_76 (by decide) ?_
        refine lv_iconst (v := 0) hx hb dX5_readStones_78 (by decide) ?_
        refine lv_iconst (v := 0) hx hb dX5_readStones_79 (by decide) ?_
        obtain ⟨v15, e14, hF⟩ := ob_s hF
        refine m_callS (As := [.int (98 : Int32), .int (97 : Int32), .int (114 : Int32), .int (101 : Int32), .int (0 : Int32), .int (0 : Int32)]) (rest := [.int v3]) X hp (w_X5_spelt e14) q1620 q1621 q144 q1622 6 rfl ds_X5_spelt ⟨Nat.le_of_ble_eq_true rfl, Nat.le_of_ble_eq_true rfl⟩ hl.1 rfl (Nat.le_of_ble_eq_true rfl) dX5_readStones_80 ⟨Nat.le_refl 0, Nat.le_refl 0⟩ (fun H locs hp => ?_)
        refine lv_icmp_ne (tgt := 90) hx hb dX5_readStones_83 (by decide) (fun c16 => ?_) (fun c16 => ?_)
        · have hF := if_n c16 hF
          refine lv_iconst (v := -1) hx hb dX5_readStones_90 (by decide) ?_
          exact b_X5_readStones_91 X _ _ _ _ _ _ _ hp (lv_sub hl [1, 2] rfl) hF
        · have hF := if_p c16 hF
          refine lv_iconst (v := 0) hx hb dX5_readStones_86 (by decide) ?_
          refine lv_goto (tgt := 91) hx hb dX5_readStones_87 (by decide) ?_
          exact b_X5_readStones_91 X _ _ _ _ _ _ _ hp (lv_sub hl [1, 2] rfl) hF
      · have hF := if_p c13 hF
        refine lv_iconst (v := 3) hx hb dX5_readStones_65 (by decide) ?_
        refine lv_goto (tgt := 91) hx hb dX5_readStones_66 (by decide) ?_
        exact b_X5_readStones_91 X _ _ _ _ _ _ _ hp (lv_sub hl [1, 2] rfl) hF
    · have hF := if_p c10 hF
      refine lv_iconst (v := 2) hx hb dX5_readStones_44 (by decide) ?_
      refine lv_goto (tgt := 91) hx hb dX5_readStones_45 (by decide) ?_
      exact b_X5_readStones_91 X _ _ _ _ _ _ _ hp (lv_sub hl [1, 2] rfl) hF
  · have hF := if_p c7 hF
    refine lv_iconst (v := 1) hx hb dX5_readStones_23 (by decide) ?_
    refine lv_goto (tgt := 91) hx hb dX5_readStones_24 (by decide) ?_
    exact b_X5_readStones_91 X _ _ _ _ _ _ _ hp (lv_sub hl [1, 2] rfl) hF
end
section
variable {l : Launch} {D : va_G} {n0 : Nat} {P : mP} {S : mSh} {M : mMm} {n : Nat} {p : Program} {e : Env} {s : State} {m : MethodId} {args : Array Value} {below : List Frame} {meth : Method} {c : Code}
abbrev Rm_X5_wayWord : Room := { frames := 2, cells := 0, slots := 0, locals := 47 }
def f_X5_wayWord (x0 : Int32) : Option Int32 := ob (f_X5_spelt (108 : Int32) (101 : Int32) (102 : Int32) (116 : Int32) (0 : Int32) (0 : Int32)) fun v2 => (if x0 = v2 then some (0 : Int32) else ob (f_X5_spelt (114 : Int32) (105 : Int32) (103 : Int32) (104 : Int32) (116 : Int32) (0 : Int32)) fun v5 => (if x0 = v5 then some (1 : Int32) else ob (f_X5_spelt (98 : Int32) (97 : Int32) (99 : Int32) (107 : Int32) (0 : Int32) (0 : Int32)) fun v8 => (if x0 = v8 then some (2 : Int32) else ob (f_X5_spelt (97 : Int32) (104 : Int32) (101 : Int32) (97 : Int32) (100 : Int32) (0 : Int32)) fun v11 => (if x0 = v11 then some (3 : Int32) else ob (f_X5_spelt (119 : Int32) (97 : Int32) (105 : Int32) (116 : Int32) (0 : Int32) (0 : Int32)) fun v14 => (if x0 = v14 then some (4 : Int32) else some (-1 : Int32))))))
theorem w_X5_wayWord {x0 : Int32} {r : Int32} (hF : f_X5_wayWord x0 = some r) : mCt l D n0 P yX5_wayWord cX5_wayWord 1 (some .int) 2 47 0 0 [.int x0] S M n (some (.int r)) S M n := by
  refine m_ofW (by decide) (Nat.le_of_ble_eq_true rfl) (fun p e s m below meth c X hnm hp ls hl => ?_)
  have hx := X.1.1
  have hb := X.1.2.1
  have hown := X.1.2.2.2.1
  have hts := X.1.2.2.2.2
  have hl : lv_has ls 1 [(0, .int x0)] := hl
  unfold f_X5_wayWord at hF
  refine lv_iload_n hx hb dX5_wayWord_0 rfl (lv_at hl 0 rfl) ?_
  refine lv_bipush (v := 108) hx hb dX5_wayWord_1 (by decide) ?_
  refine lv_bipush (v := 101) hx hb dX5_wayWord_3 (by decide) ?_
  refine lv_bipush (v := 102) hx hb dX5_wayWord_5 (by decide) ?_
  refine lv_bipush (v := 116) hx hb dX5_wayWord_7 (by decide) ?_
  refine lv_iconst (v := 0) hx hb dX5_wayWord_9 (by decide) ?_
  refine lv_iconst (v := 0) hx hb dX5_wayWord_10 (by decide) ?_
  obtain ⟨v2, e1, hF⟩ := ob_s hF
  refine m_callS (As := [.int (108 : Int32), .int (101 : Int32), .int (102 : Int32), .int (116 : Int32), .int (0 : Int32), .int (0 : Int32)]) (rest := [.int x0]) X hp (w_X5_spelt e1) q1620 q1621 q144 q1622 6 rfl ds_X5_spelt ⟨Nat.le_of_ble_eq_true rfl, Nat.le_of_ble_eq_true rfl⟩ hl.1 rfl (Nat.le_of_ble_eq_true rfl) dX5_wayWord_11 ⟨Nat.le_refl 0, Nat.le_refl 0⟩ (fun H locs hp => ?_)
  refine lv_icmp_ne (tgt := 21) hx hb dX5_wayWord_14 (by decide) (fun c3 => ?_) (fun c3 => ?_)
  · have hF := if_n c3 hF
    refine lv_iload_n hx hb dX5_wayWord_21 rfl (lv_at hl 0 rfl) ?_
    refine lv_bipush (v := 114) hx hb dX5_wayWord_22 (by decide) ?_
    refine lv_bipush (v := 105) hx hb dX5_wayWord_24 (by decide) ?_
    refine lv_bipush (v := 103) hx hb dX5_wayWord_26 (by decide) ?_
    refine lv_bipush (v := 104) hx hb dX5_wayWord_28 (by decide) ?_
    refine lv_bipush (v := 116) hx hb dX5_wayWord_30 (by decide) ?_
    refine lv_iconst (v := 0) hx hb dX5_wayWord_32 (by decide) ?_
    obtain ⟨v5, e4, hF⟩ := ob_s hF
    refine m_callS (As := [.int (114 : Int32), .int (105 : Int32), .int (103 : Int32), .int (104 : Int32), .int (116 : Int32), .int (0 : Int32)]) (rest := [.int x0]) X hp (w_X5_spelt e4) q1620 q1621 q144 q1622 6 rfl ds_X5_spelt ⟨Nat.le_of_ble_eq_true rfl, Nat.le_of_ble_eq_true rfl⟩ hl.1 rfl (Nat.le_of_ble_eq_true rfl) dX5_wayWord_33 ⟨Nat.le_refl 0, Nat.le_refl 0⟩ (fun H locs hp => ?_)
    refine lv_icmp_ne (tgt := 43) hx hb dX5_wayWord_36 (by decide) (fun c6 => ?_) (fun c6 => ?_)
    · have hF := if_n c6 hF
      refine lv_iload_n hx hb dX5_wayWord_43 rfl (lv_at hl 0 rfl) ?_
      refine lv_bipush (v := 98) hx hb dX5_wayWord_44 (by decide) ?_
      refine lv_bipush (v := 97) hx hb dX5_wayWord_46 (by decide) ?_
      refine lv_bipush (v := 99) hx hb dX5_wayWord_48 (by decide) ?_
      refine lv_bipush (v := 107) hx hb dX5_wayWord_50 (by decide) ?_
      refine lv_iconst (v := 0) hx hb dX5_wayWord_52 (by decide) ?_
      refine lv_iconst (v := 0) hx hb dX5_wayWord_53 (by decide) ?_
      obtain ⟨v8, e7, hF⟩ := ob_s hF
      refine m_callS (As := [.int (98 : Int32), .int (97 : Int32), .int (99 : Int32), .int (107 : Int32), .int (0 : Int32), .int (0 : Int32)]) (rest := [.int x0]) X hp (w_X5_spelt e7) q1620 q1621 q144 q1622 6 rfl ds_X5_spelt ⟨Nat.le_of_ble_eq_true rfl, Nat.le_of_ble_eq_true rfl⟩ hl.1 rfl (Nat.le_of_ble_eq_true rfl) dX5_wayWord_54 ⟨Nat.le_refl 0, Nat.le_refl 0⟩ (fun H locs hp => ?_)
      refine lv_icmp_ne (tgt := 64) hx hb dX5_wayWord_57 (by decide) (fun c9 => ?_) (fun c9 => ?_)
      · have hF := if_n c9 hF
        refine lv_iload_n hx hb dX5_wayWord_64 rfl (lv_at hl 0 rfl) ?_
        refine lv_bipush (v := 97) hx hb dX5_wayWord_65 (by decide) ?_
        refine lv_bipush (v := 104) hx hb dX5_wayWord_67 (by decide) ?_
        refine lv_bipush (v := 101) hx hb dX5_wayWord_69 (by decide) ?_
        refine lv_bipush (v := 97) hx hb dX5_wayWord_71 (by decide) ?_
        refine lv_bipush (v := 100) hx hb dX5_wayWord_73 (by decide) ?_
        refine lv_iconst (v := 0) hx hb dX5_wayWord_75 (by decide) ?_
        obtain ⟨v11, e10, hF⟩ := ob_s hF
        refine m_callS (As := [.int (97 : Int32), .int (104 : Int32), .int (101 : Int32), .int (97 : Int32), .int (100 : Int32), .int (0 : Int32)]) (rest := [.int x0]) X hp (w_X5_spelt e10) q1620 q1621 q144 q1622 6 rfl ds_X5_spelt ⟨Nat.le_of_ble_eq_true rfl, Nat.le_of_ble_eq_true rfl⟩ hl.1 rfl (Nat.le_of_ble_eq_true rfl) dX5_wayWord_76 ⟨Nat.le_refl 0, Nat.le_refl 0⟩ (fun H locs hp => ?_)
        refine lv_icmp_ne (tgt := 86) hx hb dX5_wayWord_79 (by decide) (fun c12 => ?_) (fun c12 => ?_)
        · have hF := if_n c12 hF
          refine lv_iload_n hx hb dX5_wayWord_86 rfl (lv_at hl 0 rfl) ?_
          refine lv_bipush (v := 119) hx hb dX5_wayWord_87 (by decide) ?_
          refine lv_bipush (v := 97) hx hb dX5_wayWord_89 (by decide) ?_
          refine lv_bipush (v := 105) hx hb dX5_wayWord_91 (by decide) ?_
          refine lv_bipush (v := 116) hx hb dX5_wayWord_93 (by decide) ?_
          refine lv_iconst (v := 0) hx hb dX5_wayWord_95 (by decide) ?_
          refine lv_iconst (v := 0) hx hb dX5_wayWord_96 (by decide) ?_
          obtain ⟨v14, e13, hF⟩ := ob_s hF
          refine m_callS (As := [.int (119 : Int32), .int (97 : Int32), .int (105 : Int32), .int (116 : Int32), .int (0 : Int32), .int (0 : Int32)]) (rest := [.int x0]) X hp (w_X5_spelt e13) q1620 q1621 q144 q1622 6 rfl ds_X5_spelt ⟨Nat.le_of_ble_eq_true rfl, Nat.le_of_ble_eq_true rfl⟩ hl.1 rfl (Nat.le_of_ble_eq_true rfl) dX5_wayWord_97 ⟨Nat.le_refl 0, Nat.le_refl 0⟩ (fun H locs hp => ?_)
          refine lv_icmp_ne (tgt := 107) hx hb dX5_wayWord_100 (by decide) (fun c15 => ?_) (fun c15 => ?_)
          · have hF := if_n c15 hF
            refine lv_iconst (v := -1) hx hb dX5_wayWord_107 (by decide) ?_
            cases hF
            exact m_iret X hp dX5_wayWord_108
          · have hF := if_p c15 hF
            refine lv_iconst (v := 4) hx hb dX5_wayWord_103 (by decide) ?_
            refine lv_goto (tgt := 108) hx hb dX5_wayWord_104 (by decide) ?_
            cases hF
            exact m_iret X hp dX5_wayWord_108
        · have hF := if_p c12 hF
          refine lv_iconst (v := 3) hx hb dX5_wayWord_82 (by decide) ?_
          refine lv_goto (tgt := 108) hx hb dX5_wayWord_83 (by decide) ?_
          cases hF
          exact m_iret X hp dX5_wayWord_108
      · have hF := if_p c9 hF
        refine lv_iconst (v := 2) hx hb dX5_wayWord_60 (by decide) ?_
        refine lv_goto (tgt := 108) hx hb dX5_wayWord_61 (by decide) ?_
        cases hF
        exact m_iret X hp dX5_wayWord_108
    · have hF := if_p c6 hF
      refine lv_iconst (v := 1) hx hb dX5_wayWord_39 (by decide) ?_
      refine lv_goto (tgt := 108) hx hb dX5_wayWord_40 (by decide) ?_
      cases hF
      exact m_iret X hp dX5_wayWord_108
  · have hF := if_p c3 hF
    refine lv_iconst (v := 0) hx hb dX5_wayWord_17 (by decide) ?_
    refine lv_goto (tgt := 108) hx hb dX5_wayWord_18 (by decide) ?_
    cases hF
    exact m_iret X hp dX5_wayWord_108
end
section
variable {l : Launch} {D : va_G} {n0 : Nat} {P : mP} {S : mSh} {M : mMm} {n : Nat} {p : Program} {e : Env} {s : State} {m : MethodId} {args : Array Value} {below : List Frame} {meth : Method} {c : Code}
abbrev Rm_X5_readWay : Room := { frames := 3, cells := 0, slots := 0, locals := 67 }
def fb_X5_readWay_187 (S : mSh) (M : mMm) (x0 : Nat) (x3 : Int32) (x4 : Int32) : Option mMm := gd ((S x0).1 = 6) (ob (f_X5_fine S M x0) fun v64 => (if v64 = 0 then some M else ob (rR S M x0 6 16) fun v66 => ob (wA S M v66 100 x3 (.int x4)) fun M68 => some M68))
theorem b_X5_readWay_187 {M' : mMm} (X : mCx D n0 P p m c cX5_readWay 7 s args yX5_readWay.cls meth none) : ∀ (M : mMm) (x0 : Nat) (x3 : Int32) (x4 : Int32) (H : Heap) (locs : List Loc) (ls : Array Slot), mHp D n0 S M n s H locs → lv_has ls 7 [(0, .ref x0), (3, .int x3), (4, .int x4)] → fb_X5_readWay_187 S M x0 x3 x4 = some M' → W p l e Rm_X5_readWay s m args below meth c H locs 0 0 (MQ below (mQ D n0 none S M' n) args s 0 0 (mA n0)) (F0 m 187 ls []) := by
  have hx := X.1.1
  have hb := X.1.2.1
  have hown := X.1.2.2.2.1
  have hts := X.1.2.2.2.2
  intro M x0 x3 x4 H locs ls hp hl hF
  unfold fb_X5_readWay_187 at hF
  refine lv_aload_n hx hb dX5_readWay_187 rfl (lv_at hl 0 rfl) ?_
  obtain ⟨g62, hF⟩ := gd_s hF
  obtain ⟨v64, e63, hF⟩ := ob_s hF
  refine m_callV (As := []) (rest := []) X hp (w_X5_fine e63) q1598 q1600 qs64 q144 q1601 0 rfl ds_X5_fine ⟨Nat.le_of_ble_eq_true rfl, Nat.le_of_ble_eq_true rfl⟩ 6 (T := TX5) (N := 40) rfl (by decide) g62 hl.1 rfl (Nat.le_of_ble_eq_true rfl) dX5_readWay_188 ⟨Nat.le_refl 0, Nat.le_refl 0⟩ (fun H locs hp => ?_)
  refine lv_if_eq (tgt := 202) hx hb dX5_readWay_191 (by decide) (fun c65 => ?_) (fun c65 => ?_)
  · have hF := if_p c65 hF
    cases hF
    exact m_vret X hp dX5_readWay_202
  · have hF := if_n c65 hF
    refine lv_aload_n hx hb dX5_readWay_194 rfl (lv_at hl 0 rfl) ?_
    obtain ⟨v66, e67, hF⟩ := ob_s hF
    refine m_getR X hp e67 kX5 (Nat.le_of_ble_eq_true rfl) q1475 dX5_readWay_195 ?_
    refine lv_iload_n hx hb dX5_readWay_198 rfl (lv_at hl 1 rfl) ?_
    refine lv_iload hx hb dX5_readWay_199 (lv_at hl 2 rfl) ?_
    obtain ⟨M68, e69, hF⟩ := ob_s hF
    refine m_iaW X hp e69 dX5_readWay_201 (fun H locs hp => ?_)
    cases hF
    exact m_vret X hp dX5_readWay_202
def fb_X5_readWay_139 (S : mSh) (k70 : mMm → Nat → Int32 → Int32 → Option mMm) (M : mMm) (x0 : Nat) (x3 : Int32) (x4 : Int32) (x5 : Int32) (y0 : Int32) : Option mMm := gd ((S x0).1 = 6) (ob (f_X5_fine S M x0) fun v50 => (if v50 = 0 then (fb_X5_readWay_187 S M x0 x3 x4) else ob (rR S M x0 6 16) fun v52 => ob (wA S M v52 100 ((x3 + (1 : Int32)) + ((2 : Int32) * x4)) (.int x5)) fun M54 => ob (rR S M54 x0 6 16) fun v56 => ob (wA S M54 v56 100 ((x3 + (2 : Int32)) + ((2 : Int32) * x4)) (.int y0)) fun M58 => nm (x4 + (1 : Int32)) fun v60 => (k70 M58 x0 x3 v60)))
theorem b_X5_readWay_139 {M' : mMm} (X : mCx D n0 P p m c cX5_readWay 7 s args yX5_readWay.cls meth none) (k70 : mMm → Nat → Int32 → Int32 → Option mMm) (hk70 : ∀ (M : mMm) (x0 : Nat) (x3 : Int32) (x4 : Int32) (H : Heap) (locs : List Loc) (ls : Array Slot), mHp D n0 S M n s H locs → lv_has ls 7 [(0, .ref x0), (3, .int x3), (4, .int x4)] → k70 M x0 x3 x4 = some M' → W p l e Rm_X5_readWay s m args below meth c H locs 0 0 (MQ below (mQ D n0 none S M' n) args s 0 0 (mA n0)) (F0 m 70 ls [])) : ∀ (M : mMm) (x0 : Nat) (x3 : Int32) (x4 : Int32) (x5 : Int32) (y0 : Int32) (H : Heap) (locs : List Loc) (ls : Array Slot), mHp D n0 S M n s H locs → lv_has ls 7 [(0, .ref x0), (3, .int x3), (4, .int x4), (5, .int x5)] → fb_X5_readWay_139 S k70 M x0 x3 x4 x5 y0 = some M' → W p l e Rm_X5_readWay s m args below meth c H locs 0 0 (MQ below (mQ D n0 none S M' n) args s 0 0 (mA n0)) (F0 m 139 ls [.int y0]) := by
  have hx := X.1.1
  have hb := X.1.2.1
  have hown := X.1.2.2.2.1
  have hts := X.1.2.2.2.2
  intro M x0 x3 x4 x5 y0 H locs ls hp hl hF
  unfold fb_X5_readWay_139 at hF
  refine lv_istore (lv' := [(6, .int y0), (0, .ref x0), (3, .int x3), (4, .int x4), (5, .int x5)]) hx hb dX5_readWay_139 hl (by decide) rfl (fun ls hl => ?_)
  refine lv_aload_n hx hb dX5_readWay_141 rfl (lv_at hl 1 rfl) ?_
  obtain ⟨g48, hF⟩ := gd_s hF
  obtain ⟨v50, e49, hF⟩ := ob_s hF
  refine m_callV (As := []) (rest := []) X hp (w_X5_fine e49) q1598 q1600 qs64 q144 q1601 0 rfl ds_X5_fine ⟨Nat.le_of_ble_eq_true rfl, Nat.le_of_ble_eq_true rfl⟩ 6 (T := TX5) (N := 40) rfl (by decide) g48 hl.1 rfl (Nat.le_of_ble_eq_true rfl) dX5_readWay_142 ⟨Nat.le_refl 0, Nat.le_refl 0⟩ (fun H locs hp => ?_)
  refine lv_if_ne (tgt := 151) hx hb dX5_readWay_145 (by decide) (fun c51 => ?_) (fun c51 => ?_)
  · have hF := if_n c51 hF
    refine lv_aload_n hx hb dX5_readWay_151 rfl (lv_at hl 1 rfl) ?_
    obtain ⟨v52, e53, hF⟩ := ob_s hF
    refine m_getR X hp e53 kX5 (Nat.le_of_ble_eq_true rfl) q1475 dX5_readWay_152 ?_
    refine lv_iload_n hx hb dX5_readWay_155 rfl (lv_at hl 2 rfl) ?_
    refine lv_iconst (v := 1) hx hb dX5_readWay_156 (by decide) ?_
    refine lv_iadd hx hb dX5_readWay_157 ?_
    refine lv_iconst (v := 2) hx hb dX5_readWay_158 (by decide) ?_
    refine lv_iload hx hb dX5_readWay_159 (lv_at hl 3 rfl) ?_
    refine lv_imul hx hb dX5_readWay_161 ?_
    refine lv_iadd hx hb dX5_readWay_162 ?_
    refine lv_iload hx hb dX5_readWay_163 (lv_at hl 4 rfl) ?_
    obtain ⟨M54, e55, hF⟩ := ob_s hF
    refine m_iaW X hp e55 dX5_readWay_165 (fun H locs hp => ?_)
    refine lv_aload_n hx hb dX5_readWay_166 rfl (lv_at hl 1 rfl) ?_
    obtain ⟨v56, e57, hF⟩ := ob_s hF
    refine m_getR X hp e57 kX5 (Nat.le_of_ble_eq_true rfl) q1475 dX5_readWay_167 ?_
    refine lv_iload_n hx hb dX5_readWay_170 rfl (lv_at hl 2 rfl) ?_
    refine lv_iconst (v := 2) hx hb dX5_readWay_171 (by decide) ?_
    refine lv_iadd hx hb dX5_readWay_172 ?_
    refine lv_iconst (v := 2) hx hb dX5_readWay_173 (by decide) ?_
    refine lv_iload hx hb dX5_readWay_174 (lv_at hl 3 rfl) ?_
    refine lv_imul hx hb dX5_readWay_176 ?_
    refine lv_iadd hx hb dX5_readWay_177 ?_
    refine lv_iload hx hb dX5_readWay_178 (lv_at hl 0 rfl) ?_
    obtain ⟨M58, e59, hF⟩ := ob_s hF
    refine m_iaW X hp e59 dX5_readWay_180 (fun H locs hp => ?_)
    obtain ⟨v60, ev61⟩ : ∃ y : Int32, y = x4 + (1 : Int32) := ⟨_, rfl⟩
    have hF := nm_s hF ev61
    refine lv_iinc (v := v60) (lv' := [(4, .int v60), (6, .int y0), (0, .ref x0), (3, .int x3), (5, .int x5)]) hx hb dX5_readWay_181 hl (k := 3) rfl (by rw [ev61]; rfl) (by decide) rfl (fun ls hl => ?_)
    refine lv_goto (tgt := 70) hx hb dX5_readWay_184 (by decide) ?_
    exact hk70 _ _ _ _ _ _ _ hp (lv_sub hl [2, 3, 0] rfl) hF
  · have hF := if_p c51 hF
    refine lv_goto (tgt := 187) hx hb dX5_readWay_148 (by decide) ?_
    exact b_X5_readWay_187 X _ _ _ _ _ _ _ hp (lv_sub hl [1, 2, 3] rfl) hF
def fb_X5_readWay_119 (S : mSh) (k70 : mMm → Nat → Int32 → Int32 → Option mMm) (M : mMm) (x0 : Nat) (x3 : Int32) (x4 : Int32) (x5 : Int32) (y0 : Int32) (y1 : Int32) (y2 : Nat) : Option mMm := gd ((S y2).1 = 6) (ob (f_X5_mayBegin S M y2 y1 y0) fun M42 => (if (3 : Int32) ≤ x5 then gd ((S x0).1 = 6) (ob (f_X5_number S M42 x0 (1 : Int32) (11 : Int32)) fun ⟨v46, M47⟩ => (fb_X5_readWay_139 S k70 M47 x0 x3 x4 x5 v46)) else (fb_X5_readWay_139 S k70 M42 x0 x3 x4 x5 (1 : Int32))))
theorem b_X5_readWay_119 {M' : mMm} (X : mCx D n0 P p m c cX5_readWay 7 s args yX5_readWay.cls meth none) (k70 : mMm → Nat → Int32 → Int32 → Option mMm) (hk70 : ∀ (M : mMm) (x0 : Nat) (x3 : Int32) (x4 : Int32) (H : Heap) (locs : List Loc) (ls : Array Slot), mHp D n0 S M n s H locs → lv_has ls 7 [(0, .ref x0), (3, .int x3), (4, .int x4)] → k70 M x0 x3 x4 = some M' → W p l e Rm_X5_readWay s m args below meth c H locs 0 0 (MQ below (mQ D n0 none S M' n) args s 0 0 (mA n0)) (F0 m 70 ls [])) : ∀ (M : mMm) (x0 : Nat) (x3 : Int32) (x4 : Int32) (x5 : Int32) (y0 : Int32) (y1 : Int32) (y2 : Nat) (H : Heap) (locs : List Loc) (ls : Array Slot), mHp D n0 S M n s H locs → lv_has ls 7 [(0, .ref x0), (3, .int x3), (4, .int x4), (5, .int x5)] → fb_X5_readWay_119 S k70 M x0 x3 x4 x5 y0 y1 y2 = some M' → W p l e Rm_X5_readWay s m args below meth c H locs 0 0 (MQ below (mQ D n0 none S M' n) args s 0 0 (mA n0)) (F0 m 119 ls [.int y0, .int y1, .ref y2]) := by
  have hx := X.1.1
  have hb := X.1.2.1
  have hown := X.1.2.2.2.1
  have hts := X.1.2.2.2.2
  intro M x0 x3 x4 x5 y0 y1 y2 H locs ls hp hl hF
  unfold fb_X5_readWay_119 at hF
  obtain ⟨g39, hF⟩ := gd_s hF
  obtain ⟨M42, e40, hF⟩ := ob_s hF
  refine m_callV (As := [.int y1, .int y0]) (rest := []) X hp (w_X5_mayBegin e40) q1623 q1625 qs68 q144 q1626 2 rfl ds_X5_mayBegin ⟨Nat.le_of_ble_eq_true rfl, Nat.le_of_ble_eq_true rfl⟩ 6 (T := TX5) (N := 40) rfl (by decide) g39 hl.1 rfl (Nat.le_of_ble_eq_true rfl) dX5_readWay_119 ⟨Nat.le_refl 0, Nat.le_refl 0⟩ (fun H locs hp => ?_)
  refine lv_iload hx hb dX5_readWay_122 (lv_at hl 3 rfl) ?_
  refine lv_iconst (v := 3) hx hb dX5_readWay_124 (by decide) ?_
  refine lv_icmp_ge (tgt := 132) hx hb dX5_readWay_125 (by decide) (fun c43 => ?_) (fun c43 => ?_)
  · have hF := if_p c43 hF
    refine lv_aload_n hx hb dX5_readWay_132 rfl (lv_at hl 0 rfl) ?_
    refine lv_iconst (v := 1) hx hb dX5_readWay_133 (by decide) ?_
    refine lv_bipush (v := 11) hx hb dX5_readWay_134 (by decide) ?_
    obtain ⟨g44, hF⟩ := gd_s hF
    obtain ⟨⟨v46, M47⟩, e45, hF⟩ := ob_s hF
    refine m_callV (As := [.int (1 : Int32), .int (11 : Int32)]) (rest := []) X hp (w_X5_number e45) q1650 q1652 qs74 q144 q1653 2 rfl ds_X5_number ⟨Nat.le_of_ble_eq_true rfl, Nat.le_of_ble_eq_true rfl⟩ 6 (T := TX5) (N := 40) rfl (by decide) g44 hl.1 rfl (Nat.le_of_ble_eq_true rfl) dX5_readWay_136 ⟨Nat.le_refl 0, Nat.le_refl 0⟩ (fun H locs hp => ?_)
    exact b_X5_readWay_139 X _ hk70 _ _ _ _ _ _ _ _ _ hp (lv_sub hl [0, 1, 2, 3] rfl) hF
  · have hF := if_n c43 hF
    refine lv_iconst (v := 1) hx hb dX5_readWay_128 (by decide) ?_
    refine lv_goto (tgt := 139) hx hb dX5_readWay_129 (by decide) ?_
    exact b_X5_readWay_139 X _ hk70 _ _ _ _ _ _ _ _ _ hp (lv_sub hl [0, 1, 2, 3] rfl) hF
def fb_X5_readWay_107 (S : mSh) (k70 : mMm → Nat → Int32 → Int32 → Option mMm) (M : mMm) (x0 : Nat) (x3 : Int32) (x4 : Int32) (x5 : Int32) (y0 : Int32) (y1 : Nat) : Option mMm := (if x4 = (12 : Int32) then (fb_X5_readWay_119 S k70 M x0 x3 x4 x5 (1 : Int32) y0 y1) else (fb_X5_readWay_119 S k70 M x0 x3 x4 x5 (0 : Int32) y0 y1))
theorem b_X5_readWay_107 {M' : mMm} (X : mCx D n0 P p m c cX5_readWay 7 s args yX5_readWay.cls meth none) (k70 : mMm → Nat → Int32 → Int32 → Option mMm) (hk70 : ∀ (M : mMm) (x0 : Nat) (x3 : Int32) (x4 : Int32) (H : Heap) (locs : List Loc) (ls : Array Slot), mHp D n0 S M n s H locs → lv_has ls 7 [(0, .ref x0), (3, .int x3), (4, .int x4)] → k70 M x0 x3 x4 = some M' → W p l e Rm_X5_readWay s m args below meth c H locs 0 0 (MQ below (mQ D n0 none S M' n) args s 0 0 (mA n0)) (F0 m 70 ls [])) : ∀ (M : mMm) (x0 : Nat) (x3 : Int32) (x4 : Int32) (x5 : Int32) (y0 : Int32) (y1 : Nat) (H : Heap) (locs : List Loc) (ls : Array Slot), mHp D n0 S M n s H locs → lv_has ls 7 [(0, .ref x0), (3, .int x3), (4, .int x4), (5, .int x5)] → fb_X5_readWay_107 S k70 M x0 x3 x4 x5 y0 y1 = some M' → W p l e Rm_X5_readWay s m args below meth c H locs 0 0 (MQ below (mQ D n0 none S M' n) args s 0 0 (mA n0)) (F0 m 107 ls [.int y0, .ref y1]) := by
  have hx := X.1.1
  have hb := X.1.2.1
  have hown := X.1.2.2.2.1
  have hts := X.1.2.2.2.2
  intro M x0 x3 x4 x5 y0 y1 H locs ls hp hl hF
  unfold fb_X5_readWay_107 at hF
  refine lv_iload hx hb dX5_readWay_107 (lv_at hl 2 rfl) ?_
  refine lv_bipush (v := 12) hx hb dX5_readWay_109 (by decide) ?_
  refine lv_icmp_ne (tgt := 118) hx hb dX5_readWay_111 (by decide) (fun c38 => ?_) (fun c38 => ?_)
  · have hF := if_n c38 hF
    refine lv_iconst (v := 0) hx hb dX5_readWay_118 (by decide) ?_
    exact b_X5_readWay_119 X _ hk70 _ _ _ _ _ _ _ _ _ _ _ hp (lv_sub hl [0, 1, 2, 3] rfl) hF
  · have hF := if_p c38 hF
    refine lv_iconst (v := 1) hx hb dX5_readWay_114 (by decide) ?_
    refine lv_goto (tgt := 119) hx hb dX5_readWay_115 (by decide) ?_
    exact b_X5_readWay_119 X _ hk70 _ _ _ _ _ _ _ _ _ _ _ hp (lv_sub hl [0, 1, 2, 3] rfl) hF
def fb_X5_readWay_70 (S : mSh) : Nat → mMm → Nat → Int32 → Int32 → Option mMm
  | 0, _, _, _, _ => none
  | t + 1, M, x0, x3, x4 => gd ((S x0).1 = 6) (ob (f_X5_fine S M x0) fun v26 => (if v26 = 0 then (fb_X5_readWay_187 S M x0 x3 x4) else ob (f_X5_here S M x0) fun ⟨v29, M30⟩ => (if v29 = (59 : Int32) then (fb_X5_readWay_187 S M30 x0 x3 x4) else ob (f_X5_word S M30 x0) fun ⟨v33, M34⟩ => ob (f_X5_wayWord v33) fun v36 => (if v36 = (-1 : Int32) then (fb_X5_readWay_107 S (fb_X5_readWay_70 S t) M34 x0 x3 x4 v36 (0 : Int32) x0) else (fb_X5_readWay_107 S (fb_X5_readWay_70 S t) M34 x0 x3 x4 v36 (1 : Int32) x0)))))
theorem b_X5_readWay_70 {M' : mMm} (X : mCx D n0 P p m c cX5_readWay 7 s args yX5_readWay.cls meth none) : ∀ t : Nat, ∀ (M : mMm) (x0 : Nat) (x3 : Int32) (x4 : Int32) (H : Heap) (locs : List Loc) (ls : Array Slot), mHp D n0 S M n s H locs → lv_has ls 7 [(0, .ref x0), (3, .int x3), (4, .int x4)] → fb_X5_readWay_70 S t M x0 x3 x4 = some M' → W p l e Rm_X5_readWay s m args below meth c H locs 0 0 (MQ below (mQ D n0 none S M' n) args s 0 0 (mA n0)) (F0 m 70 ls []) := by
  have hx := X.1.1
  have hb := X.1.2.1
  have hown := X.1.2.2.2.1
  have hts := X.1.2.2.2.2
  intro t
  induction t with
  | zero =>
    intro M x0 x3 x4 H locs ls hp hl hF
    have hF : none = some M' := hF
    cases hF
  | succ t ih =>
    intro M x0 x3 x4 H locs ls hp hl hF
    rw [fb_X5_readWay_70] at hF
    refine lv_aload_n hx hb dX5_readWay_70 rfl (lv_at hl 0 rfl) ?_
    obtain ⟨g24, hF⟩ := gd_s hF
    obtain ⟨v26, e25, hF⟩ := ob_s hF
    refine m_callV (As := []) (rest := []) X hp (w_X5_fine e25) q1598 q1600 qs64 q144 q1601 0 rfl ds_X5_fine ⟨Nat.le_of_ble_eq_true rfl, Nat.le_of_ble_eq_true rfl⟩ 6 (T := TX5) (N := 40) rfl (by decide) g24 hl.1 rfl (Nat.le_of_ble_eq_true rfl) dX5_readWay_71 ⟨Nat.le_refl 0, Nat.le_refl 0⟩ (fun H locs hp => ?_)
    refine lv_if_eq (tgt := 187) hx hb dX5_readWay_74 (by decide) (fun c27 => ?_) (fun c27 => ?_)
    · have hF := if_p c27 hF
      exact b_X5_readWay_187 X _ _ _ _ _ _ _ hp (lv_sub hl [0, 1, 2] rfl) hF
    · have hF := if_n c27 hF
      refine lv_aload_n hx hb dX5_readWay_77 rfl (lv_at hl 0 rfl) ?_
      obtain ⟨⟨v29, M30⟩, e28, hF⟩ := ob_s hF
      refine m_callV (As := []) (rest := []) X hp (w_X5_here e28) q1602 q1604 qs65 q144 q1605 0 rfl ds_X5_here ⟨Nat.le_of_ble_eq_true rfl, Nat.le_of_ble_eq_true rfl⟩ 6 (T := TX5) (N := 40) rfl (by decide) g24 hl.1 rfl (Nat.le_of_ble_eq_true rfl) dX5_readWay_78 ⟨Nat.le_refl 0, Nat.le_refl 0⟩ (fun H locs hp => ?_)
      refine lv_bipush (v := 59) hx hb dX5_readWay_81 (by decide) ?_
      refine lv_icmp_eq (tgt := 187) hx hb dX5_readWay_83 (by decide) (fun c31 => ?_) (fun c31 => ?_)
      · have hF := if_p c31 hF
        exact b_X5_readWay_187 X _ _ _ _ _ _ _ hp (lv_sub hl [0, 1, 2] rfl) hF
      · have hF := if_n c31 hF
        refine lv_aload_n hx hb dX5_readWay_86 rfl (lv_at hl 0 rfl) ?_
        obtain ⟨⟨v33, M34⟩, e32, hF⟩ := ob_s hF
        refine m_callV (As := []) (rest := []) X hp (w_X5_word e32) q1610 q1612 qs67 q144 q1613 0 rfl ds_X5_word ⟨Nat.le_of_ble_eq_true rfl, Nat.le_of_ble_eq_true rfl⟩ 6 (T := TX5) (N := 40) rfl (by decide) g24 hl.1 rfl (Nat.le_of_ble_eq_true rfl) dX5_readWay_87 ⟨Nat.le_refl 0, Nat.le_refl 0⟩ (fun H locs hp => ?_)
        obtain ⟨v36, e35, hF⟩ := ob_s hF
        refine m_callS (As := [.int v33]) (rest := []) X hp (w_X5_wayWord e35) q1697 q1698 q144 q1699 1 rfl ds_X5_wayWord ⟨Nat.le_of_ble_eq_true rfl, Nat.le_of_ble_eq_true rfl⟩ hl.1 rfl (Nat.le_of_ble_eq_true rfl) dX5_readWay_90 ⟨Nat.le_refl 0, Nat.le_refl 0⟩ (fun H locs hp => ?_)
        refine lv_istore (lv' := [(5, .int v36), (0, .ref x0), (3, .int x3), (4, .int x4)]) hx hb dX5_readWay_93 hl (by decide) rfl (fun ls hl => ?_)
        refine lv_aload_n hx hb dX5_readWay_95 rfl (lv_at hl 1 rfl) ?_
        refine lv_iload hx hb dX5_readWay_96 (lv_at hl 0 rfl) ?_
        refine lv_iconst (v := -1) hx hb dX5_readWay_98 (by decide) ?_
        refine lv_icmp_eq (tgt := 106) hx hb dX5_readWay_99 (by decide) (fun c37 => ?_) (fun c37 => ?_)
        · have hF := if_p c37 hF
          refine lv_iconst (v := 0) hx hb dX5_readWay_106 (by decide) ?_
          exact b_X5_readWay_107 X _ ih _ _ _ _ _ _ _ _ _ _ hp (lv_sub hl [1, 2, 3, 0] rfl) hF
        · have hF := if_n c37 hF
          refine lv_iconst (v := 1) hx hb dX5_readWay_102 (by decide) ?_
          refine lv_goto (tgt := 107) hx hb dX5_readWay_103 (by decide) ?_
          exact b_X5_readWay_107 X _ ih _ _ _ _ _ _ _ _ _ _ hp (lv_sub hl [1, 2, 3, 0] rfl) hF
def fb_X5_readWay_39 (S : mSh) (M : mMm) (x0 : Nat) (y0 : Int32) (y1 : Int32) (y2 : Nat) : Option mMm := gd ((S y2).1 = 6) (ob (f_X5_mayBegin S M y2 y1 y0) fun M12 => ob (rR S M12 x0 6 0) fun v13 => ob (aI S M12 v13 100 (940 : Int32)) fun v15 => ob (f_X5_number S M12 x0 (0 : Int32) (v15 - (1 : Int32))) fun ⟨v18, M19⟩ => nm (((1925 : Int32) + ((25 : Int32) * v18))) fun v20 => nm ((0 : Int32)) fun v22 => (fb_X5_readWay_70 S FU M19 x0 v20 v22))
theorem b_X5_readWay_39 {M' : mMm} (X : mCx D n0 P p m c cX5_readWay 7 s args yX5_readWay.cls meth none) : ∀ (M : mMm) (x0 : Nat) (y0 : Int32) (y1 : Int32) (y2 : Nat) (H : Heap) (locs : List Loc) (ls : Array Slot), mHp D n0 S M n s H locs → lv_has ls 7 [(0, .ref x0)] → fb_X5_readWay_39 S M x0 y0 y1 y2 = some M' → W p l e Rm_X5_readWay s m args below meth c H locs 0 0 (MQ below (mQ D n0 none S M' n) args s 0 0 (mA n0)) (F0 m 39 ls [.int y0, .int y1, .ref y2]) := by
  have hx := X.1.1
  have hb := X.1.2.1
  have hown := X.1.2.2.2.1
  have hts := X.1.2.2.2.2
  intro M x0 y0 y1 y2 H locs ls hp hl hF
  unfold fb_X5_readWay_39 at hF
  obtain ⟨g9, hF⟩ := gd_s hF
  obtain ⟨M12, e10, hF⟩ := ob_s hF
  refine m_callV (As := [.int y1, .int y0]) (rest := []) X hp (w_X5_mayBegin e10) q1623 q1625 qs68 q144 q1626 2 rfl ds_X5_mayBegin ⟨Nat.le_of_ble_eq_true rfl, Nat.le_of_ble_eq_true rfl⟩ 6 (T := TX5) (N := 40) rfl (by decide) g9 hl.1 rfl (Nat.le_of_ble_eq_true rfl) dX5_readWay_39 ⟨Nat.le_refl 0, Nat.le_refl 0⟩ (fun H locs hp => ?_)
  refine lv_aload_n hx hb dX5_readWay_42 rfl (lv_at hl 0 rfl) ?_
  refine lv_iconst (v := 0) hx hb dX5_readWay_43 (by decide) ?_
  refine lv_aload_n hx hb dX5_readWay_44 rfl (lv_at hl 0 rfl) ?_
  obtain ⟨v13, e14, hF⟩ := ob_s hF
  refine m_getR X hp e14 kX5 (Nat.le_of_ble_eq_true rfl) q1459 dX5_readWay_45 ?_
  refine lv_sipush (v := 940) hx hb dX5_readWay_48 (by decide) ?_
  obtain ⟨v15, e16, hF⟩ := ob_s hF
  refine m_iaI X hp e16 dX5_readWay_51 ?_
  refine lv_iconst (v := 1) hx hb dX5_readWay_52 (by decide) ?_
  refine lv_isub hx hb dX5_readWay_53 ?_
  obtain ⟨⟨v18, M19⟩, e17, hF⟩ := ob_s hF
  refine m_callV (As := [.int (0 : Int32), .int (v15 - (1 : Int32))]) (rest := []) X hp (w_X5_number e17) q1650 q1652 qs74 q144 q1653 2 rfl ds_X5_number ⟨Nat.le_of_ble_eq_true rfl, Nat.le_of_ble_eq_true rfl⟩ 6 (T := TX5) (N := 40) rfl (by decide) (rR_s e14).1 hl.1 rfl (Nat.le_of_ble_eq_true rfl) dX5_readWay_54 ⟨Nat.le_refl 0, Nat.le_refl 0⟩ (fun H locs hp => ?_)
  refine lv_istore_n (lv' := [(2, .int v18), (0, .ref x0)]) hx hb dX5_readWay_57 rfl hl (by decide) rfl (fun ls hl => ?_)
  refine lv_sipush (v := 1925) hx hb dX5_readWay_58 (by decide) ?_
  refine lv_bipush (v := 25) hx hb dX5_readWay_61 (by decide) ?_
  refine lv_iload_n hx hb dX5_readWay_63 rfl (lv_at hl 0 rfl) ?_
  refine lv_imul hx hb dX5_readWay_64 ?_
  refine lv_iadd hx hb dX5_readWay_65 ?_
  refine lv_topi (fun v20 ev21 => ?_)
  have hF := nm_s hF ev21
  refine lv_istore_n (lv' := [(3, .int v20), (2, .int v18), (0, .ref x0)]) hx hb dX5_readWay_66 rfl hl (by decide) rfl (fun ls hl => ?_)
  refine lv_iconst (v := 0) hx hb dX5_readWay_67 (by decide) ?_
  refine lv_topi (fun v22 ev23 => ?_)
  have hF := nm_s hF ev23
  refine lv_istore (lv' := [(4, .int v22), (3, .int v20), (2, .int v18), (0, .ref x0)]) hx hb dX5_readWay_68 hl (by decide) rfl (fun ls hl => ?_)
  exact b_X5_readWay_70 X _ _ _ _ _ _ _ _ hp (lv_sub hl [3, 1, 0] rfl) hF
def fb_X5_readWay_28 (S : mSh) (M : mMm) (x0 : Nat) (x1 : Int32) (y0 : Int32) (y1 : Nat) : Option mMm := (if x1 = (16 : Int32) then (fb_X5_readWay_39 S M x0 (1 : Int32) y0 y1) else (fb_X5_readWay_39 S M x0 (0 : Int32) y0 y1))
theorem b_X5_readWay_28 {M' : mMm} (X : mCx D n0 P p m c cX5_readWay 7 s args yX5_readWay.cls meth none) : ∀ (M : mMm) (x0 : Nat) (x1 : Int32) (y0 : Int32) (y1 : Nat) (H : Heap) (locs : List Loc) (ls : Array Slot), mHp D n0 S M n s H locs → lv_has ls 7 [(0, .ref x0), (1, .int x1)] → fb_X5_readWay_28 S M x0 x1 y0 y1 = some M' → W p l e Rm_X5_readWay s m args below meth c H locs 0 0 (MQ below (mQ D n0 none S M' n) args s 0 0 (mA n0)) (F0 m 28 ls [.int y0, .ref y1]) := by
  have hx := X.1.1
  have hb := X.1.2.1
  have hown := X.1.2.2.2.1
  have hts := X.1.2.2.2.2
  intro M x0 x1 y0 y1 H locs ls hp hl hF
  unfold fb_X5_readWay_28 at hF
  refine lv_iload_n hx hb dX5_readWay_28 rfl (lv_at hl 1 rfl) ?_
  refine lv_bipush (v := 16) hx hb dX5_readWay_29 (by decide) ?_
  refine lv_icmp_ne (tgt := 38) hx hb dX5_readWay_31 (by decide) (fun c8 => ?_) (fun c8 => ?_)
  · have hF := if_n c8 hF
    refine lv_iconst (v := 0) hx hb dX5_readWay_38 (by decide) ?_
    exact b_X5_readWay_39 X _ _ _ _ _ _ _ _ hp (lv_sub hl [0] rfl) hF
  · have hF := if_p c8 hF
    refine lv_iconst (v := 1) hx hb dX5_readWay_34 (by decide) ?_
    refine lv_goto (tgt := 39) hx hb dX5_readWay_35 (by decide) ?_
    exact b_X5_readWay_39 X _ _ _ _ _ _ _ _ hp (lv_sub hl [0] rfl) hF
def f_X5_readWay (S : mSh) (M : mMm) (x0 : Nat) (x1 : Int32) : Option mMm := gd ((S x0).1 = 6) (ob (f_X5_word S M x0) fun ⟨v3, M4⟩ => ob (f_X5_spelt (119 : Int32) (97 : Int32) (108 : Int32) (107 : Int32) (101 : Int32) (114 : Int32)) fun v6 => (if v3 = v6 then (fb_X5_readWay_28 S M4 x0 x1 (1 : Int32) x0) else (fb_X5_readWay_28 S M4 x0 x1 (0 : Int32) x0)))
theorem w_X5_readWay {x0 : Nat} {x1 : Int32} {M' : mMm} (hF : f_X5_readWay S M x0 x1 = some M') : mCt l D n0 P yX5_readWay cX5_readWay 7 none 3 67 0 0 [.ref x0, .int x1] S M n none S M' n := by
  refine m_ofW (by decide) (Nat.le_of_ble_eq_true rfl) (fun p e s m below meth c X hnm hp ls hl => ?_)
  have hx := X.1.1
  have hb := X.1.2.1
  have hown := X.1.2.2.2.1
  have hts := X.1.2.2.2.2
  have hl : lv_has ls 7 [(0, .ref x0), (1, .int x1)] := hl
  unfold f_X5_readWay at hF
  refine lv_aload_n hx hb dX5_readWay_0 rfl (lv_at hl 0 rfl) ?_
  refine lv_aload_n hx hb dX5_readWay_1 rfl (lv_at hl 0 rfl) ?_
  obtain ⟨g1, hF⟩ := gd_s hF
  obtain ⟨⟨v3, M4⟩, e2, hF⟩ := ob_s hF
  refine m_callV (As := []) (rest := [.ref x0]) X hp (w_X5_word e2) q1610 q1612 qs67 q144 q1613 0 rfl ds_X5_word ⟨Nat.le_of_ble_eq_true rfl, Nat.le_of_ble_eq_true rfl⟩ 6 (T := TX5) (N := 40) rfl (by decide) g1 hl.1 rfl (Nat.le_of_ble_eq_true rfl) dX5_readWay_2 ⟨Nat.le_refl 0, Nat.le_refl 0⟩ (fun H locs hp => ?_)
  refine lv_bipush (v := 119) hx hb dX5_readWay_5 (by decide) ?_
  refine lv_bipush (v := 97) hx hb dX5_readWay_7 (by decide) ?_
  refine lv_bipush (v := 108) hx hb dX5_readWay_9 (by decide) ?_
  refine lv_bipush (v := 107) hx hb dX5_readWay_11 (by decide) ?_
  refine lv_bipush (v := 101) hx hb dX5_readWay_13 (by decide) ?_
  refine lv_bipush (v := 114) hx hb dX5_readWay_15 (by decide) ?_
  obtain ⟨v6, e5, hF⟩ := ob_s hF
  refine m_callS (As := [.int (119 : Int32), .int (97 : Int32), .int (108 : Int32), .int (107 : Int32), .int (101 : Int32), .int (114 : Int32)]) (rest := [.int v3, .ref x0]) X hp (w_X5_spelt e5) q1620 q1621 q144 q1622 6 rfl ds_X5_spelt ⟨Nat.le_of_ble_eq_true rfl, Nat.le_of_ble_eq_true rfl⟩ hl.1 rfl (Nat.le_of_ble_eq_true rfl) dX5_readWay_17 ⟨Nat.le_refl 0, Nat.le_refl 0⟩ (fun H locs hp => ?_)
  refine lv_icmp_ne (tgt := 27) hx hb dX5_readWay_20 (by decide) (fun c7 => ?_) (fun c7 => ?_)
  · have hF := if_n c7 hF
    refine lv_iconst (v := 0) hx hb dX5_readWay_27 (by decide) ?_
    exact b_X5_readWay_28 X _ _ _ _ _ _ _ _ hp (lv_sub hl [0, 1] rfl) hF
  · have hF := if_p c7 hF
    refine lv_iconst (v := 1) hx hb dX5_readWay_23 (by decide) ?_
    refine lv_goto (tgt := 28) hx hb dX5_readWay_24 (by decide) ?_
    exact b_X5_readWay_28 X _ _ _ _ _ _ _ _ hp (lv_sub hl [0, 1] rfl) hF
end
section
variable {l : Launch} {D : va_G} {n0 : Nat} {P : mP} {S : mSh} {M : mMm} {n : Nat} {p : Program} {e : Env} {s : State} {m : MethodId} {args : Array Value} {below : List Frame} {meth : Method} {c : Code}
abbrev Rm_X5_round : Room := { frames := 2, cells := 0, slots := 0, locals := 43 }
def f_X5_round (S : mSh) (M : mMm) (x0 : Nat) (x1 : Int32) : Option (Int32 × mMm) := ob (f_X5_within x1 (0 : Int32) (3 : Int32)) fun v2 => (if v2 = 0 then some ((-100 : Int32), M) else gd ((S x0).1 = 6) (ob (f_X5_goesRound S M x0) fun M7 => ob (rR S M7 x0 6 26) fun v8 => ob (rI S M7 x0 6 28) fun v10 => ob (aI S M7 v8 100 (v10 - (1 : Int32))) fun v12 => ob (f_X5_abs v12) fun v15 => ob (rR S M7 x0 6 27) fun v16 => ob (rI S M7 x0 6 28) fun v18 => ob (aI S M7 v16 100 (v18 - (1 : Int32))) fun v20 => ob (f_X5_abs v20) fun v23 => nm ((v15 + v23)) fun v24 => (if x1 = 0 then ob (rI S M7 x0 6 29) fun v36 => some (v36, M7) else (if x1 = (1 : Int32) then some (v24, M7) else (if x1 = (2 : Int32) then ob (f_X5_again S M7 x0) fun v35 => some (v35, M7) else (if v24 = 0 then ob (rI S M7 x0 6 30) fun v30 => ob (f_X5_abs v30) fun v33 => some (v33, M7) else some ((-1 : Int32), M7)))))))
theorem w_X5_round {x0 : Nat} {x1 : Int32} {r : Int32} {M' : mMm} (hF : f_X5_round S M x0 x1 = some (r, M')) : mCt l D n0 P yX5_round cX5_round 3 (some .int) 2 43 0 0 [.ref x0, .int x1] S M n (some (.int r)) S M' n := by
  refine m_ofW (by decide) (Nat.le_of_ble_eq_true rfl) (fun p e s m below meth c X hnm hp ls hl => ?_)
  have hx := X.1.1
  have hb := X.1.2.1
  have hown := X.1.2.2.2.1
  have hts := X.1.2.2.2.2
  have hl : lv_has ls 3 [(0, .ref x0), (1, .int x1)] := hl
  unfold f_X5_round at hF
  refine lv_iload_n hx hb dX5_round_0 rfl (lv_at hl 1 rfl) ?_
  refine lv_iconst (v := 0) hx hb dX5_round_1 (by decide) ?_
  refine lv_iconst (v := 3) hx hb dX5_round_2 (by decide) ?_
  obtain ⟨v2, e1, hF⟩ := ob_s hF
  refine m_callS (As := [.int x1, .int (0 : Int32), .int (3 : Int32)]) (rest := []) X hp (w_X5_within e1) q1588 q1589 q144 q1590 3 rfl ds_X5_within ⟨Nat.le_of_ble_eq_true rfl, Nat.le_of_ble_eq_true rfl⟩ hl.1 rfl (Nat.le_of_ble_eq_true rfl) dX5_round_3 ⟨Nat.le_refl 0, Nat.le_refl 0⟩ (fun H locs hp => ?_)
  refine lv_if_ne (tgt := 12) hx hb dX5_round_6 (by decide) (fun c3 => ?_) (fun c3 => ?_)
  · have hF := if_n c3 hF
    refine lv_aload_n hx hb dX5_round_12 rfl (lv_at hl 0 rfl) ?_
    obtain ⟨g4, hF⟩ := gd_s hF
    obtain ⟨M7, e5, hF⟩ := ob_s hF
    refine m_callV (As := []) (rest := []) X hp (w_X5_goesRound e5) q1981 q1983 qs124 q144 q1984 0 rfl ds_X5_goesRound ⟨Nat.le_of_ble_eq_true rfl, Nat.le_of_ble_eq_true rfl⟩ 6 (T := TX5) (N := 40) rfl (by decide) g4 hl.1 rfl (Nat.le_of_ble_eq_true rfl) dX5_round_13 ⟨Nat.le_refl 0, Nat.le_refl 0⟩ (fun H locs hp => ?_)
    refine lv_aload_n hx hb dX5_round_16 rfl (lv_at hl 0 rfl) ?_
    obtain ⟨v8, e9, hF⟩ := ob_s hF
    refine m_getR X hp e9 kX5 (Nat.le_of_ble_eq_true rfl) q1485 dX5_round_17 ?_
    refine lv_aload_n hx hb dX5_round_20 rfl (lv_at hl 0 rfl) ?_
    obtain ⟨v10, e11, hF⟩ := ob_s hF
    refine m_getI X hp e11 kX5 (Nat.le_of_ble_eq_true rfl) q1487 dX5_round_21 ?_
    refine lv_iconst (v := 1) hx hb dX5_round_24 (by decide) ?_
    refine lv_isub hx hb dX5_round_25 ?_
    obtain ⟨v12, e13, hF⟩ := ob_s hF
    refine m_iaI X hp e13 dX5_round_26 ?_
    obtain ⟨v15, e14, hF⟩ := ob_s hF
    refine m_callS (As := [.int v12]) (rest := []) X hp (w_X5_abs e14) q1951 q1952 q144 q1953 1 rfl ds_X5_abs ⟨Nat.le_of_ble_eq_true rfl, Nat.le_of_ble_eq_true rfl⟩ hl.1 rfl (Nat.le_of_ble_eq_true rfl) dX5_round_27 ⟨Nat.le_refl 0, Nat.le_refl 0⟩ (fun H locs hp => ?_)
    refine lv_aload_n hx hb dX5_round_30 rfl (lv_at hl 0 rfl) ?_
    obtain ⟨v16, e17, hF⟩ := ob_s hF
    refine m_getR X hp e17 kX5 (Nat.le_of_ble_eq_true rfl) q1486 dX5_round_31 ?_
    refine lv_aload_n hx hb dX5_round_34 rfl (lv_at hl 0 rfl) ?_
    obtain ⟨v18, e19, hF⟩ := ob_s hF
    refine m_getI X hp e19 kX5 (Nat.le_of_ble_eq_true rfl) q1487 dX5_round_35 ?_
    refine lv_iconst (v := 1) hx hb dX5_round_38 (by decide) ?_
    refine lv_isub hx hb dX5_round_39 ?_
    obtain ⟨v20, e21, hF⟩ := ob_s hF
    refine m_iaI X hp e21 dX5_round_40 ?_
    obtain ⟨v23, e22, hF⟩ := ob_s hF
    refine m_callS (As := [.int v20]) (rest := [.int v15]) X hp (w_X5_abs e22) q1951 q1952 q144 q1953 1 rfl ds_X5_abs ⟨Nat.le_of_ble_eq_true rfl, Nat.le_of_ble_eq_true rfl⟩ hl.1 rfl (Nat.le_of_ble_eq_true rfl) dX5_round_41 ⟨Nat.le_refl 0, Nat.le_refl 0⟩ (fun H locs hp => ?_)
    refine lv_iadd hx hb dX5_round_44 ?_
    refine lv_topi (fun v24 ev25 => ?_)
    have hF := nm_s hF ev25
    refine lv_istore_n (lv' := [(2, .int v24), (0, .ref x0), (1, .int x1)]) hx hb dX5_round_45 rfl hl (by decide) rfl (fun ls hl => ?_)
    refine lv_iload_n hx hb dX5_round_46 rfl (lv_at hl 2 rfl) ?_
    refine lv_if_ne (tgt := 57) hx hb dX5_round_47 (by decide) (fun c26 => ?_) (fun c26 => ?_)
    · have hF := if_n c26 hF
      refine lv_iload_n hx hb dX5_round_57 rfl (lv_at hl 2 rfl) ?_
      refine lv_iconst (v := 1) hx hb dX5_round_58 (by decide) ?_
      refine lv_icmp_ne (tgt := 66) hx hb dX5_round_59 (by decide) (fun c27 => ?_) (fun c27 => ?_)
      · have hF := if_n c27 hF
        refine lv_iload_n hx hb dX5_round_66 rfl (lv_at hl 2 rfl) ?_
        refine lv_iconst (v := 2) hx hb dX5_round_67 (by decide) ?_
        refine lv_icmp_ne (tgt := 78) hx hb dX5_round_68 (by decide) (fun c28 => ?_) (fun c28 => ?_)
        · have hF := if_n c28 hF
          refine lv_iload_n hx hb dX5_round_78 rfl (lv_at hl 0 rfl) ?_
          refine lv_if_ne (tgt := 92) hx hb dX5_round_79 (by decide) (fun c29 => ?_) (fun c29 => ?_)
          · have hF := if_n c29 hF
            refine lv_iconst (v := -1) hx hb dX5_round_92 (by decide) ?_
            cases hF
            exact m_iret X hp dX5_round_93
          · have hF := if_p c29 hF
            refine lv_aload_n hx hb dX5_round_82 rfl (lv_at hl 1 rfl) ?_
            obtain ⟨v30, e31, hF⟩ := ob_s hF
            refine m_getI X hp e31 kX5 (Nat.le_of_ble_eq_true rfl) q1489 dX5_round_83 ?_
            obtain ⟨v33, e32, hF⟩ := ob_s hF
            refine m_callS (As := [.int v30]) (rest := []) X hp (w_X5_abs e32) q1951 q1952 q144 q1953 1 rfl ds_X5_abs ⟨Nat.le_of_ble_eq_true rfl, Nat.le_of_ble_eq_true rfl⟩ hl.1 rfl (Nat.le_of_ble_eq_true rfl) dX5_round_86 ⟨Nat.le_refl 0, Nat.le_refl 0⟩ (fun H locs hp => ?_)
            refine lv_goto (tgt := 93) hx hb dX5_round_89 (by decide) ?_
            cases hF
            exact m_iret X hp dX5_round_93
        · have hF := if_p c28 hF
          refine lv_aload_n hx hb dX5_round_71 rfl (lv_at hl 1 rfl) ?_
          obtain ⟨v35, e34, hF⟩ := ob_s hF
          refine m_callV (As := []) (rest := []) X hp (w_X5_again e34) q1985 q1987 qs125 q144 q1988 0 rfl ds_X5_again ⟨Nat.le_of_ble_eq_true rfl, Nat.le_of_ble_eq_true rfl⟩ 6 (T := TX5) (N := 40) rfl (by decide) (rI_s e19).1 hl.1 rfl (Nat.le_of_ble_eq_true rfl) dX5_round_72 ⟨Nat.le_refl 0, Nat.le_refl 0⟩ (fun H locs hp => ?_)
          refine lv_goto (tgt := 93) hx hb dX5_round_75 (by decide) ?_
          cases hF
          exact m_iret X hp dX5_round_93
      · have hF := if_p c27 hF
        refine lv_iload_n hx hb dX5_round_62 rfl (lv_at hl 0 rfl) ?_
        refine lv_goto (tgt := 93) hx hb dX5_round_63 (by decide) ?_
        cases hF
        exact m_iret X hp dX5_round_93
    · have hF := if_p c26 hF
      refine lv_aload_n hx hb dX5_round_50 rfl (lv_at hl 1 rfl) ?_
      obtain ⟨v36, e37, hF⟩ := ob_s hF
      refine m_getI X hp e37 kX5 (Nat.le_of_ble_eq_true rfl) q1488 dX5_round_51 ?_
      refine lv_goto (tgt := 93) hx hb dX5_round_54 (by decide) ?_
      cases hF
      exact m_iret X hp dX5_round_93
  · have hF := if_p c3 hF
    refine lv_bipush (v := -100) hx hb dX5_round_9 (by decide) ?_
    cases hF
    exact m_iret X hp dX5_round_11
end
section
variable {l : Launch} {D : va_G} {n0 : Nat} {P : mP} {S : mSh} {M : mMm} {n : Nat} {p : Program} {e : Env} {s : State} {m : MethodId} {args : Array Value} {below : List Frame} {meth : Method} {c : Code}
abbrev Rm_X5_sees : Room := { frames := 1, cells := 0, slots := 0, locals := 21 }
def fb_X5_sees_164 (S : mSh) (M : mMm) (k59 : Nat → Int32 → Int32 → Int32 → Int32 → Int32 → Int32 → Option Int32) (x0 : Nat) (x3 : Int32) (x4 : Int32) (x5 : Int32) (x6 : Int32) (x7 : Int32) (x8 : Int32) (x9 : Int32) (y0 : Int32) : Option Int32 := ob (rR S M x0 6 0) fun v33 => ob (f_X5_place x9 y0) fun v36 => ob (aI S M v33 100 v36) fun v37 => (if v37 = (1 : Int32) then some (0 : Int32) else nm (x8 + (1 : Int32)) fun v40 => (k59 x0 x3 x4 x5 x6 x7 v40))
theorem b_X5_sees_164 {r : Int32} (X : mCx D n0 P p m c cX5_sees 11 s args yX5_sees.cls meth (some .boolean)) (k59 : Nat → Int32 → Int32 → Int32 → Int32 → Int32 → Int32 → Option Int32) (hk59 : ∀ (x0 : Nat) (x3 : Int32) (x4 : Int32) (x5 : Int32) (x6 : Int32) (x7 : Int32) (x8 : Int32) (H : Heap) (locs : List Loc) (ls : Array Slot), mHp D n0 S M n s H locs → lv_has ls 11 [(0, .ref x0), (3, .int x3), (4, .int x4), (5, .int x5), (6, .int x6), (7, .int x7), (8, .int x8)] → k59 x0 x3 x4 x5 x6 x7 x8 = some r → W p l e Rm_X5_sees s m args below meth c H locs 0 0 (MQ below (mQ D n0 (some (.int r)) S M n) args s 0 0 (mA n0)) (F0 m 59 ls [])) : ∀ (x0 : Nat) (x3 : Int32) (x4 : Int32) (x5 : Int32) (x6 : Int32) (x7 : Int32) (x8 : Int32) (x9 : Int32) (y0 : Int32) (H : Heap) (locs : List Loc) (ls : Array Slot), mHp D n0 S M n s H locs → lv_has ls 11 [(0, .ref x0), (3, .int x3), (4, .int x4), (5, .int x5), (6, .int x6), (7, .int x7), (8, .int x8), (9, .int x9)] → fb_X5_sees_164 S M k59 x0 x3 x4 x5 x6 x7 x8 x9 y0 = some r → W p l e Rm_X5_sees s m args below meth c H locs 0 0 (MQ below (mQ D n0 (some (.int r)) S M n) args s 0 0 (mA n0)) (F0 m 164 ls [.int y0]) := by
  have hx := X.1.1
  have hb := X.1.2.1
  have hown := X.1.2.2.2.1
  have hts := X.1.2.2.2.2
  intro x0 x3 x4 x5 x6 x7 x8 x9 y0 H locs ls hp hl hF
  unfold fb_X5_sees_164 at hF
  refine lv_istore (lv' := [(10, .int y0), (0, .ref x0), (3, .int x3), (4, .int x4), (5, .int x5), (6, .int x6), (7, .int x7), (8, .int x8), (9, .int x9)]) hx hb dX5_sees_164 hl (by decide) rfl (fun ls hl => ?_)
  refine lv_aload_n hx hb dX5_sees_166 rfl (lv_at hl 1 rfl) ?_
  obtain ⟨v33, e34, hF⟩ := ob_s hF
  refine m_getR X hp e34 kX5 (Nat.le_of_ble_eq_true rfl) q1459 dX5_sees_167 ?_
  refine lv_iload hx hb dX5_sees_170 (lv_at hl 8 rfl) ?_
  refine lv_iload hx hb dX5_sees_172 (lv_at hl 0 rfl) ?_
  obtain ⟨v36, e35, hF⟩ := ob_s hF
  refine m_callS (As := [.int x9, .int y0]) (rest := [.ref v33]) X hp (w_X5_place e35) q1708 q1709 q144 q1710 2 rfl ds_X5_place ⟨Nat.le_of_ble_eq_true rfl, Nat.le_of_ble_eq_true rfl⟩ hl.1 rfl (Nat.le_of_ble_eq_true rfl) dX5_sees_174 ⟨Nat.le_refl 0, Nat.le_refl 0⟩ (fun H locs hp => ?_)
  obtain ⟨v37, e38, hF⟩ := ob_s hF
  refine m_iaI X hp e38 dX5_sees_177 ?_
  refine lv_iconst (v := 1) hx hb dX5_sees_178 (by decide) ?_
  refine lv_icmp_ne (tgt := 184) hx hb dX5_sees_179 (by decide) (fun c39 => ?_) (fun c39 => ?_)
  · have hF := if_n c39 hF
    obtain ⟨v40, ev41⟩ : ∃ y : Int32, y = x8 + (1 : Int32) := ⟨_, rfl⟩
    have hF := nm_s hF ev41
    refine lv_iinc (v := v40) (lv' := [(8, .int v40), (10, .int y0), (0, .ref x0), (3, .int x3), (4, .int x4), (5, .int x5), (6, .int x6), (7, .int x7), (9, .int x9)]) hx hb dX5_sees_184 hl (k := 7) rfl (by rw [ev41]; rfl) (by decide) rfl (fun ls hl => ?_)
    refine lv_goto (tgt := 59) hx hb dX5_sees_187 (by decide) ?_
    exact hk59 _ _ _ _ _ _ _ _ _ _ hp (lv_sub hl [2, 3, 4, 5, 6, 7, 0] rfl) hF
  · have hF := if_p c39 hF
    refine lv_iconst (v := 0) hx hb dX5_sees_182 (by decide) ?_
    cases hF
    exact m_zret X hp rfl dX5_sees_183
def fb_X5_sees_163 (S : mSh) (M : mMm) (k59 : Nat → Int32 → Int32 → Int32 → Int32 → Int32 → Int32 → Option Int32) (x0 : Nat) (x3 : Int32) (x4 : Int32) (x5 : Int32) (x6 : Int32) (x7 : Int32) (x8 : Int32) (x9 : Int32) (y0 : Int32) (y1 : Int32) : Option Int32 := (fb_X5_sees_164 S M k59 x0 x3 x4 x5 x6 x7 x8 x9 (y1 + y0))
theorem b_X5_sees_163 {r : Int32} (X : mCx D n0 P p m c cX5_sees 11 s args yX5_sees.cls meth (some .boolean)) (k59 : Nat → Int32 → Int32 → Int32 → Int32 → Int32 → Int32 → Option Int32) (hk59 : ∀ (x0 : Nat) (x3 : Int32) (x4 : Int32) (x5 : Int32) (x6 : Int32) (x7 : Int32) (x8 : Int32) (H : Heap) (locs : List Loc) (ls : Array Slot), mHp D n0 S M n s H locs → lv_has ls 11 [(0, .ref x0), (3, .int x3), (4, .int x4), (5, .int x5), (6, .int x6), (7, .int x7), (8, .int x8)] → k59 x0 x3 x4 x5 x6 x7 x8 = some r → W p l e Rm_X5_sees s m args below meth c H locs 0 0 (MQ below (mQ D n0 (some (.int r)) S M n) args s 0 0 (mA n0)) (F0 m 59 ls [])) : ∀ (x0 : Nat) (x3 : Int32) (x4 : Int32) (x5 : Int32) (x6 : Int32) (x7 : Int32) (x8 : Int32) (x9 : Int32) (y0 : Int32) (y1 : Int32) (H : Heap) (locs : List Loc) (ls : Array Slot), mHp D n0 S M n s H locs → lv_has ls 11 [(0, .ref x0), (3, .int x3), (4, .int x4), (5, .int x5), (6, .int x6), (7, .int x7), (8, .int x8), (9, .int x9)] → fb_X5_sees_163 S M k59 x0 x3 x4 x5 x6 x7 x8 x9 y0 y1 = some r → W p l e Rm_X5_sees s m args below meth c H locs 0 0 (MQ below (mQ D n0 (some (.int r)) S M n) args s 0 0 (mA n0)) (F0 m 163 ls [.int y0, .int y1]) := by
  have hx := X.1.1
  have hb := X.1.2.1
  have hown := X.1.2.2.2.1
  have hts := X.1.2.2.2.2
  intro x0 x3 x4 x5 x6 x7 x8 x9 y0 y1 H locs ls hp hl hF
  unfold fb_X5_sees_163 at hF
  refine lv_iadd hx hb dX5_sees_163 ?_
  exact b_X5_sees_164 X _ hk59 _ _ _ _ _ _ _ _ _ _ _ _ hp (lv_sub hl [0, 1, 2, 3, 4, 5, 6, 7] rfl) hF
def fb_X5_sees_113 (S : mSh) (M : mMm) (k59 : Nat → Int32 → Int32 → Int32 → Int32 → Int32 → Int32 → Option Int32) (x0 : Nat) (x3 : Int32) (x4 : Int32) (x5 : Int32) (x6 : Int32) (x7 : Int32) (x8 : Int32) (y0 : Int32) : Option Int32 := ob (f_X5_abs x5) fun v28 => (if x7 = v28 then ob (f_X5_downBy ((((2 : Int32) * x8) * x6) + x7) ((2 : Int32) * x7)) fun v32 => (fb_X5_sees_164 S M k59 x0 x3 x4 x5 x6 x7 x8 y0 (x4 + v32)) else (if x6 ≤ 0 then (fb_X5_sees_163 S M k59 x0 x3 x4 x5 x6 x7 x8 y0 (-x8) x4) else (fb_X5_sees_163 S M k59 x0 x3 x4 x5 x6 x7 x8 y0 x8 x4)))
theorem b_X5_sees_113 {r : Int32} (X : mCx D n0 P p m c cX5_sees 11 s args yX5_sees.cls meth (some .boolean)) (k59 : Nat → Int32 → Int32 → Int32 → Int32 → Int32 → Int32 → Option Int32) (hk59 : ∀ (x0 : Nat) (x3 : Int32) (x4 : Int32) (x5 : Int32) (x6 : Int32) (x7 : Int32) (x8 : Int32) (H : Heap) (locs : List Loc) (ls : Array Slot), mHp D n0 S M n s H locs → lv_has ls 11 [(0, .ref x0), (3, .int x3), (4, .int x4), (5, .int x5), (6, .int x6), (7, .int x7), (8, .int x8)] → k59 x0 x3 x4 x5 x6 x7 x8 = some r → W p l e Rm_X5_sees s m args below meth c H locs 0 0 (MQ below (mQ D n0 (some (.int r)) S M n) args s 0 0 (mA n0)) (F0 m 59 ls [])) : ∀ (x0 : Nat) (x3 : Int32) (x4 : Int32) (x5 : Int32) (x6 : Int32) (x7 : Int32) (x8 : Int32) (y0 : Int32) (H : Heap) (locs : List Loc) (ls : Array Slot), mHp D n0 S M n s H locs → lv_has ls 11 [(0, .ref x0), (3, .int x3), (4, .int x4), (5, .int x5), (6, .int x6), (7, .int x7), (8, .int x8)] → fb_X5_sees_113 S M k59 x0 x3 x4 x5 x6 x7 x8 y0 = some r → W p l e Rm_X5_sees s m args below meth c H locs 0 0 (MQ below (mQ D n0 (some (.int r)) S M n) args s 0 0 (mA n0)) (F0 m 113 ls [.int y0]) := by
  have hx := X.1.1
  have hb := X.1.2.1
  have hown := X.1.2.2.2.1
  have hts := X.1.2.2.2.2
  intro x0 x3 x4 x5 x6 x7 x8 y0 H locs ls hp hl hF
  unfold fb_X5_sees_113 at hF
  refine lv_istore (lv' := [(9, .int y0), (0, .ref x0), (3, .int x3), (4, .int x4), (5, .int x5), (6, .int x6), (7, .int x7), (8, .int x8)]) hx hb dX5_sees_113 hl (by decide) rfl (fun ls hl => ?_)
  refine lv_iload hx hb dX5_sees_115 (lv_at hl 6 rfl) ?_
  refine lv_iload hx hb dX5_sees_117 (lv_at hl 4 rfl) ?_
  obtain ⟨v28, e27, hF⟩ := ob_s hF
  refine m_callS (As := [.int x5]) (rest := [.int x7]) X hp (w_X5_abs e27) q1951 q1952 q144 q1953 1 rfl ds_X5_abs ⟨Nat.le_of_ble_eq_true rfl, Nat.le_of_ble_eq_true rfl⟩ hl.1 rfl (Nat.le_of_ble_eq_true rfl) dX5_sees_119 ⟨Nat.le_refl 0, Nat.le_refl 0⟩ (fun H locs hp => ?_)
  refine lv_icmp_ne (tgt := 148) hx hb dX5_sees_122 (by decide) (fun c29 => ?_) (fun c29 => ?_)
  · have hF := if_n c29 hF
    refine lv_iload hx hb dX5_sees_148 (lv_at hl 3 rfl) ?_
    refine lv_iload hx hb dX5_sees_150 (lv_at hl 5 rfl) ?_
    refine lv_if_le (tgt := 160) hx hb dX5_sees_152 (by decide) (fun c30 => ?_) (fun c30 => ?_)
    · have hF := if_p c30 hF
      refine lv_iload hx hb dX5_sees_160 (lv_at hl 7 rfl) ?_
      refine lv_ineg hx hb dX5_sees_162 ?_
      exact b_X5_sees_163 X _ hk59 _ _ _ _ _ _ _ _ _ _ _ _ _ hp (lv_sub hl [1, 2, 3, 4, 5, 6, 7, 0] rfl) hF
    · have hF := if_n c30 hF
      refine lv_iload hx hb dX5_sees_155 (lv_at hl 7 rfl) ?_
      refine lv_goto (tgt := 163) hx hb dX5_sees_157 (by decide) ?_
      exact b_X5_sees_163 X _ hk59 _ _ _ _ _ _ _ _ _ _ _ _ _ hp (lv_sub hl [1, 2, 3, 4, 5, 6, 7, 0] rfl) hF
  · have hF := if_p c29 hF
    refine lv_iload hx hb dX5_sees_125 (lv_at hl 3 rfl) ?_
    refine lv_iconst (v := 2) hx hb dX5_sees_127 (by decide) ?_
    refine lv_iload hx hb dX5_sees_128 (lv_at hl 7 rfl) ?_
    refine lv_imul hx hb dX5_sees_130 ?_
    refine lv_iload hx hb dX5_sees_131 (lv_at hl 5 rfl) ?_
    refine lv_imul hx hb dX5_sees_133 ?_
    refine lv_iload hx hb dX5_sees_134 (lv_at hl 6 rfl) ?_
    refine lv_iadd hx hb dX5_sees_136 ?_
    refine lv_iconst (v := 2) hx hb dX5_sees_137 (by decide) ?_
    refine lv_iload hx hb dX5_sees_138 (lv_at hl 6 rfl) ?_
    refine lv_imul hx hb dX5_sees_140 ?_
    obtain ⟨v32, e31, hF⟩ := ob_s hF
    refine m_callS (As := [.int ((((2 : Int32) * x8) * x6) + x7), .int ((2 : Int32) * x7)]) (rest := [.int x4]) X hp (w_X5_downBy e31) q1954 q1955 q144 q1956 2 rfl ds_X5_downBy ⟨Nat.le_of_ble_eq_true rfl, Nat.le_of_ble_eq_true rfl⟩ hl.1 rfl (Nat.le_of_ble_eq_true rfl) dX5_sees_141 ⟨Nat.le_refl 0, Nat.le_refl 0⟩ (fun H locs hp => ?_)
    refine lv_iadd hx hb dX5_sees_144 ?_
    refine lv_goto (tgt := 164) hx hb dX5_sees_145 (by decide) ?_
    exact b_X5_sees_164 X _ hk59 _ _ _ _ _ _ _ _ _ _ _ _ hp (lv_sub hl [1, 2, 3, 4, 5, 6, 7, 0] rfl) hF
def fb_X5_sees_90 (S : mSh) (M : mMm) (k59 : Nat → Int32 → Int32 → Int32 → Int32 → Int32 → Int32 → Option Int32) (x0 : Nat) (x3 : Int32) (x4 : Int32) (x5 : Int32) (x6 : Int32) (x7 : Int32) (x8 : Int32) (y0 : Int32) (y1 : Int32) : Option Int32 := (fb_X5_sees_113 S M k59 x0 x3 x4 x5 x6 x7 x8 (y1 + y0))
theorem b_X5_sees_90 {r : Int32} (X : mCx D n0 P p m c cX5_sees 11 s args yX5_sees.cls meth (some .boolean)) (k59 : Nat → Int32 → Int32 → Int32 → Int32 → Int32 → Int32 → Option Int32) (hk59 : ∀ (x0 : Nat) (x3 : Int32) (x4 : Int32) (x5 : Int32) (x6 : Int32) (x7 : Int32) (x8 : Int32) (H : Heap) (locs : List Loc) (ls : Array Slot), mHp D n0 S M n s H locs → lv_has ls 11 [(0, .ref x0), (3, .int x3), (4, .int x4), (5, .int x5), (6, .int x6), (7, .int x7), (8, .int x8)] → k59 x0 x3 x4 x5 x6 x7 x8 = some r → W p l e Rm_X5_sees s m args below meth c H locs 0 0 (MQ below (mQ D n0 (some (.int r)) S M n) args s 0 0 (mA n0)) (F0 m 59 ls [])) : ∀ (x0 : Nat) (x3 : Int32) (x4 : Int32) (x5 : Int32) (x6 : Int32) (x7 : Int32) (x8 : Int32) (y0 : Int32) (y1 : Int32) (H : Heap) (locs : List Loc) (ls : Array Slot), mHp D n0 S M n s H locs → lv_has ls 11 [(0, .ref x0), (3, .int x3), (4, .int x4), (5, .int x5), (6, .int x6), (7, .int x7), (8, .int x8)] → fb_X5_sees_90 S M k59 x0 x3 x4 x5 x6 x7 x8 y0 y1 = some r → W p l e Rm_X5_sees s m args below meth c H locs 0 0 (MQ below (mQ D n0 (some (.int r)) S M n) args s 0 0 (mA n0)) (F0 m 90 ls [.int y0, .int y1]) := by
  have hx := X.1.1
  have hb := X.1.2.1
  have hown := X.1.2.2.2.1
  have hts := X.1.2.2.2.2
  intro x0 x3 x4 x5 x6 x7 x8 y0 y1 H locs ls hp hl hF
  unfold fb_X5_sees_90 at hF
  refine lv_iadd hx hb dX5_sees_90 ?_
  refine lv_goto (tgt := 113) hx hb dX5_sees_91 (by decide) ?_
  exact b_X5_sees_113 X _ hk59 _ _ _ _ _ _ _ _ _ _ _ hp (lv_sub hl [0, 1, 2, 3, 4, 5, 6] rfl) hF
def fb_X5_sees_59 (S : mSh) (M : mMm) : Nat → Nat → Int32 → Int32 → Int32 → Int32 → Int32 → Int32 → Option Int32
  | 0, _, _, _, _, _, _, _ => none
  | t + 1, x0, x3, x4, x5, x6, x7, x8 => (if x7 ≤ x8 then some (1 : Int32) else ob (f_X5_abs x5) fun v22 => (if x7 = v22 then (if x5 ≤ 0 then (fb_X5_sees_90 S M (fb_X5_sees_59 S M t) x0 x3 x4 x5 x6 x7 x8 (-x8) x3) else (fb_X5_sees_90 S M (fb_X5_sees_59 S M t) x0 x3 x4 x5 x6 x7 x8 x8 x3)) else ob (f_X5_downBy ((((2 : Int32) * x8) * x5) + x7) ((2 : Int32) * x7)) fun v25 => (fb_X5_sees_113 S M (fb_X5_sees_59 S M t) x0 x3 x4 x5 x6 x7 x8 (x3 + v25))))
theorem b_X5_sees_59 {r : Int32} (X : mCx D n0 P p m c cX5_sees 11 s args yX5_sees.cls meth (some .boolean)) : ∀ t : Nat, ∀ (x0 : Nat) (x3 : Int32) (x4 : Int32) (x5 : Int32) (x6 : Int32) (x7 : Int32) (x8 : Int32) (H : Heap) (locs : List Loc) (ls : Array Slot), mHp D n0 S M n s H locs → lv_has ls 11 [(0, .ref x0), (3, .int x3), (4, .int x4), (5, .int x5), (6, .int x6), (7, .int x7), (8, .int x8)] → fb_X5_sees_59 S M t x0 x3 x4 x5 x6 x7 x8 = some r → W p l e Rm_X5_sees s m args below meth c H locs 0 0 (MQ below (mQ D n0 (some (.int r)) S M n) args s 0 0 (mA n0)) (F0 m 59 ls []) := by
  have hx := X.1.1
  have hb := X.1.2.1
  have hown := X.1.2.2.2.1
  have hts := X.1.2.2.2.2
  intro t
  induction t with
  | zero =>
    intro x0 x3 x4 x5 x6 x7 x8 H locs ls hp hl hF
    have hF : none = some r := hF
    cases hF
  | succ t ih =>
    intro x0 x3 x4 x5 x6 x7 x8 H locs ls hp hl hF
    rw [fb_X5_sees_59] at hF
    refine lv_iload hx hb dX5_sees_59 (lv_at hl 6 rfl) ?_
    refine lv_iload hx hb dX5_sees_61 (lv_at hl 5 rfl) ?_
    refine lv_icmp_ge (tgt := 190) hx hb dX5_sees_63 (by decide) (fun c20 => ?_) (fun c20 => ?_)
    · have hF := if_p c20 hF
      refine lv_iconst (v := 1) hx hb dX5_sees_190 (by decide) ?_
      cases hF
      exact m_zret X hp rfl dX5_sees_191
    · have hF := if_n c20 hF
      refine lv_iload hx hb dX5_sees_66 (lv_at hl 5 rfl) ?_
      refine lv_iload hx hb dX5_sees_68 (lv_at hl 3 rfl) ?_
      obtain ⟨v22, e21, hF⟩ := ob_s hF
      refine m_callS (As := [.int x5]) (rest := [.int x7]) X hp (w_X5_abs e21) q1951 q1952 q144 q1953 1 rfl ds_X5_abs ⟨Nat.le_of_ble_eq_true rfl, Nat.le_of_ble_eq_true rfl⟩ hl.1 rfl (Nat.le_of_ble_eq_true rfl) dX5_sees_70 ⟨Nat.le_refl 0, Nat.le_refl 0⟩ (fun H locs hp => ?_)
      refine lv_icmp_ne (tgt := 94) hx hb dX5_sees_73 (by decide) (fun c23 => ?_) (fun c23 => ?_)
      · have hF := if_n c23 hF
        refine lv_iload_n hx hb dX5_sees_94 rfl (lv_at hl 1 rfl) ?_
        refine lv_iconst (v := 2) hx hb dX5_sees_95 (by decide) ?_
        refine lv_iload hx hb dX5_sees_96 (lv_at hl 6 rfl) ?_
        refine lv_imul hx hb dX5_sees_98 ?_
        refine lv_iload hx hb dX5_sees_99 (lv_at hl 3 rfl) ?_
        refine lv_imul hx hb dX5_sees_101 ?_
        refine lv_iload hx hb dX5_sees_102 (lv_at hl 5 rfl) ?_
        refine lv_iadd hx hb dX5_sees_104 ?_
        refine lv_iconst (v := 2) hx hb dX5_sees_105 (by decide) ?_
        refine lv_iload hx hb dX5_sees_106 (lv_at hl 5 rfl) ?_
        refine lv_imul hx hb dX5_sees_108 ?_
        obtain ⟨v25, e24, hF⟩ := ob_s hF
        refine m_callS (As := [.int ((((2 : Int32) * x8) * x5) + x7), .int ((2 : Int32) * x7)]) (rest := [.int x3]) X hp (w_X5_downBy e24) q1954 q1955 q144 q1956 2 rfl ds_X5_downBy ⟨Nat.le_of_ble_eq_true rfl, Nat.le_of_ble_eq_true rfl⟩ hl.1 rfl (Nat.le_of_ble_eq_true rfl) dX5_sees_109 ⟨Nat.le_refl 0, Nat.le_refl 0⟩ (fun H locs hp => ?_)
        refine lv_iadd hx hb dX5_sees_112 ?_
        exact b_X5_sees_113 X _ ih _ _ _ _ _ _ _ _ _ _ _ hp (lv_sub hl [0, 1, 2, 3, 4, 5, 6] rfl) hF
      · have hF := if_p c23 hF
        refine lv_iload_n hx hb dX5_sees_76 rfl (lv_at hl 1 rfl) ?_
        refine lv_iload hx hb dX5_sees_77 (lv_at hl 3 rfl) ?_
        refine lv_if_le (tgt := 87) hx hb dX5_sees_79 (by decide) (fun c26 => ?_) (fun c26 => ?_)
        · have hF := if_p c26 hF
          refine lv_iload hx hb dX5_sees_87 (lv_at hl 6 rfl) ?_
          refine lv_ineg hx hb dX5_sees_89 ?_
          exact b_X5_sees_90 X _ ih _ _ _ _ _ _ _ _ _ _ _ _ hp (lv_sub hl [0, 1, 2, 3, 4, 5, 6] rfl) hF
        · have hF := if_n c26 hF
          refine lv_iload hx hb dX5_sees_82 (lv_at hl 6 rfl) ?_
          refine lv_goto (tgt := 90) hx hb dX5_sees_84 (by decide) ?_
          exact b_X5_sees_90 X _ ih _ _ _ _ _ _ _ _ _ _ _ _ hp (lv_sub hl [0, 1, 2, 3, 4, 5, 6] rfl) hF
def fb_X5_sees_54 (S : mSh) (M : mMm) (x0 : Nat) (x3 : Int32) (x4 : Int32) (x5 : Int32) (x6 : Int32) (y0 : Int32) : Option Int32 := nm ((1 : Int32)) fun v18 => (fb_X5_sees_59 S M FU x0 x3 x4 x5 x6 y0 v18)
theorem b_X5_sees_54 {r : Int32} (X : mCx D n0 P p m c cX5_sees 11 s args yX5_sees.cls meth (some .boolean)) : ∀ (x0 : Nat) (x3 : Int32) (x4 : Int32) (x5 : Int32) (x6 : Int32) (y0 : Int32) (H : Heap) (locs : List Loc) (ls : Array Slot), mHp D n0 S M n s H locs → lv_has ls 11 [(0, .ref x0), (3, .int x3), (4, .int x4), (5, .int x5), (6, .int x6)] → fb_X5_sees_54 S M x0 x3 x4 x5 x6 y0 = some r → W p l e Rm_X5_sees s m args below meth c H locs 0 0 (MQ below (mQ D n0 (some (.int r)) S M n) args s 0 0 (mA n0)) (F0 m 54 ls [.int y0]) := by
  have hx := X.1.1
  have hb := X.1.2.1
  have hown := X.1.2.2.2.1
  have hts := X.1.2.2.2.2
  intro x0 x3 x4 x5 x6 y0 H locs ls hp hl hF
  unfold fb_X5_sees_54 at hF
  refine lv_istore (lv' := [(7, .int y0), (0, .ref x0), (3, .int x3), (4, .int x4), (5, .int x5), (6, .int x6)]) hx hb dX5_sees_54 hl (by decide) rfl (fun ls hl => ?_)
  refine lv_iconst (v := 1) hx hb dX5_sees_56 (by decide) ?_
  refine lv_topi (fun v18 ev19 => ?_)
  have hF := nm_s hF ev19
  refine lv_istore (lv' := [(8, .int v18), (7, .int y0), (0, .ref x0), (3, .int x3), (4, .int x4), (5, .int x5), (6, .int x6)]) hx hb dX5_sees_57 hl (by decide) rfl (fun ls hl => ?_)
  exact b_X5_sees_59 X _ _ _ _ _ _ _ _ _ _ _ hp (lv_sub hl [2, 3, 4, 5, 6, 1, 0] rfl) hF
def f_X5_sees (S : mSh) (M : mMm) (x0 : Nat) (x1 : Int32) (x2 : Int32) : Option Int32 := nm ((x1 - x1 / (12 : Int32) * (12 : Int32))) fun v1 => nm ((x1 / (12 : Int32))) fun v3 => nm (((x2 - x2 / (12 : Int32) * (12 : Int32)) - v1)) fun v5 => nm (((x2 / (12 : Int32)) - v3)) fun v7 => ob (f_X5_abs v5) fun v10 => ob (f_X5_abs v7) fun v12 => (if v10 < v12 then ob (f_X5_abs v7) fun v15 => (fb_X5_sees_54 S M x0 v1 v3 v5 v7 v15) else ob (f_X5_abs v5) fun v17 => (fb_X5_sees_54 S M x0 v1 v3 v5 v7 v17))
theorem w_X5_sees {x0 : Nat} {x1 : Int32} {x2 : Int32} {r : Int32} (hF : f_X5_sees S M x0 x1 x2 = some r) : mCt l D n0 P yX5_sees cX5_sees 11 (some .boolean) 1 21 0 0 [.ref x0, .int x1, .int x2] S M n (some (.int r)) S M n := by
  refine m_ofW (by decide) (Nat.le_of_ble_eq_true rfl) (fun p e s m below meth c X hnm hp ls hl => ?_)
  have hx := X.1.1
  have hb := X.1.2.1
  have hown := X.1.2.2.2.1
  have hts := X.1.2.2.2.2
  have hl : lv_has ls 11 [(0, .ref x0), (1, .int x1), (2, .int x2)] := hl
  unfold f_X5_sees at hF
  refine lv_iload_n hx hb dX5_sees_0 rfl (lv_at hl 1 rfl) ?_
  refine lv_bipush (v := 12) hx hb dX5_sees_1 (by decide) ?_
  refine lv_irem hx hb dX5_sees_3 (by decide) ?_
  refine lv_topi (fun v1 ev2 => ?_)
  have hF := nm_s hF ev2
  refine lv_istore_n (lv' := [(3, .int v1), (0, .ref x0), (1, .int x1), (2, .int x2)]) hx hb dX5_sees_4 rfl hl (by decide) rfl (fun ls hl => ?_)
  refine lv_iload_n hx hb dX5_sees_5 rfl (lv_at hl 2 rfl) ?_
  refine lv_bipush (v := 12) hx hb dX5_sees_6 (by decide) ?_
  refine lv_idiv hx hb dX5_sees_8 (by decide) ?_
  refine lv_topi (fun v3 ev4 => ?_)
  have hF := nm_s hF ev4
  refine lv_istore (lv' := [(4, .int v3), (3, .int v1), (0, .ref x0), (1, .int x1), (2, .int x2)]) hx hb dX5_sees_9 hl (by decide) rfl (fun ls hl => ?_)
  refine lv_iload_n hx hb dX5_sees_11 rfl (lv_at hl 4 rfl) ?_
  refine lv_bipush (v := 12) hx hb dX5_sees_12 (by decide) ?_
  refine lv_irem hx hb dX5_sees_14 (by decide) ?_
  refine lv_iload_n hx hb dX5_sees_15 rfl (lv_at hl 1 rfl) ?_
  refine lv_isub hx hb dX5_sees_16 ?_
  refine lv_topi (fun v5 ev6 => ?_)
  have hF := nm_s hF ev6
  refine lv_istore (lv' := [(5, .int v5), (4, .int v3), (3, .int v1), (0, .ref x0), (1, .int x1), (2, .int x2)]) hx hb dX5_sees_17 hl (by decide) rfl (fun ls hl => ?_)
  refine lv_iload_n hx hb dX5_sees_19 rfl (lv_at hl 5 rfl) ?_
  refine lv_bipush (v := 12) hx hb dX5_sees_20 (by decide) ?_
  refine lv_idiv hx hb dX5_sees_22 (by decide) ?_
  refine lv_iload hx hb dX5_sees_23 (lv_at hl 1 rfl) ?_
  refine lv_isub hx hb dX5_sees_25 ?_
  refine lv_topi (fun v7 ev8 => ?_)
  have hF := nm_s hF ev8
  refine lv_istore (lv' := [(6, .int v7), (5, .int v5), (4, .int v3), (3, .int v1), (0, .ref x0), (1, .int x1), (2, .int x2)]) hx hb dX5_sees_26 hl (by decide) rfl (fun ls hl => ?_)
  refine lv_iload hx hb dX5_sees_28 (lv_at hl 1 rfl) ?_
  obtain ⟨v10, e9, hF⟩ := ob_s hF
  refine m_callS (As := [.int v5]) (rest := []) X hp (w_X5_abs e9) q1951 q1952 q144 q1953 1 rfl ds_X5_abs ⟨Nat.le_of_ble_eq_true rfl, Nat.le_of_ble_eq_true rfl⟩ hl.1 rfl (Nat.le_of_ble_eq_true rfl) dX5_sees_30 ⟨Nat.le_refl 0, Nat.le_refl 0⟩ (fun H locs hp => ?_)
  refine lv_iload hx hb dX5_sees_33 (lv_at hl 0 rfl) ?_
  obtain ⟨v12, e11, hF⟩ := ob_s hF
  refine m_callS (As := [.int v7]) (rest := [.int v10]) X hp (w_X5_abs e11) q1951 q1952 q144 q1953 1 rfl ds_X5_abs ⟨Nat.le_of_ble_eq_true rfl, Nat.le_of_ble_eq_true rfl⟩ hl.1 rfl (Nat.le_of_ble_eq_true rfl) dX5_sees_35 ⟨Nat.le_refl 0, Nat.le_refl 0⟩ (fun H locs hp => ?_)
  refine lv_icmp_lt (tgt := 49) hx hb dX5_sees_38 (by decide) (fun c13 => ?_) (fun c13 => ?_)
  · have hF := if_p c13 hF
    refine lv_iload hx hb dX5_sees_49 (lv_at hl 0 rfl) ?_
    obtain ⟨v15, e14, hF⟩ := ob_s hF
    refine m_callS (As := [.int v7]) (rest := []) X hp (w_X5_abs e14) q1951 q1952 q144 q1953 1 rfl ds_X5_abs ⟨Nat.le_of_ble_eq_true rfl, Nat.le_of_ble_eq_true rfl⟩ hl.1 rfl (Nat.le_of_ble_eq_true rfl) dX5_sees_51 ⟨Nat.le_refl 0, Nat.le_refl 0⟩ (fun H locs hp => ?_)
    exact b_X5_sees_54 X _ _ _ _ _ _ _ _ _ hp (lv_sub hl [4, 3, 2, 1, 0] rfl) hF
  · have hF := if_n c13 hF
    refine lv_iload hx hb dX5_sees_41 (lv_at hl 1 rfl) ?_
    obtain ⟨v17, e16, hF⟩ := ob_s hF
    refine m_callS (As := [.int v5]) (rest := []) X hp (w_X5_abs e16) q1951 q1952 q144 q1953 1 rfl ds_X5_abs ⟨Nat.le_of_ble_eq_true rfl, Nat.le_of_ble_eq_true rfl⟩ hl.1 rfl (Nat.le_of_ble_eq_true rfl) dX5_sees_43 ⟨Nat.le_refl 0, Nat.le_refl 0⟩ (fun H locs hp => ?_)
    refine lv_goto (tgt := 54) hx hb dX5_sees_46 (by decide) ?_
    exact b_X5_sees_54 X _ _ _ _ _ _ _ _ _ hp (lv_sub hl [4, 3, 2, 1, 0] rfl) hF
end
section
variable {l : Launch} {D : va_G} {n0 : Nat} {P : mP} {S : mSh} {M : mMm} {n : Nat} {p : Program} {e : Env} {s : State} {m : MethodId} {args : Array Value} {below : List Frame} {meth : Method} {c : Code}
abbrev Rm_X5_seen : Room := { frames := 2, cells := 0, slots := 0, locals := 51 }
def fb_X5_seen_44 (S : mSh) (M : mMm) : Nat → Nat → Int32 → Int32 → Int32 → Option Int32
  | 0, _, _, _, _ => none
  | t + 1, x0, x1, x3, x4 => (if (144 : Int32) ≤ x4 then some x3 else gd ((S x0).1 = 6) (ob (f_X5_sees S M x0 x1 x4) fun v20 => ob (f_X5_asInt v20) fun v22 => nm ((x3 + v22)) fun v23 => nm (x4 + (1 : Int32)) fun v25 => (fb_X5_seen_44 S M t x0 x1 v23 v25)))
theorem b_X5_seen_44 {r : Int32} (X : mCx D n0 P p m c cX5_seen 5 s args yX5_seen.cls meth (some .int)) : ∀ t : Nat, ∀ (x0 : Nat) (x1 : Int32) (x3 : Int32) (x4 : Int32) (H : Heap) (locs : List Loc) (ls : Array Slot), mHp D n0 S M n s H locs → lv_has ls 5 [(0, .ref x0), (1, .int x1), (3, .int x3), (4, .int x4)] → fb_X5_seen_44 S M t x0 x1 x3 x4 = some r → W p l e Rm_X5_seen s m args below meth c H locs 0 0 (MQ below (mQ D n0 (some (.int r)) S M n) args s 0 0 (mA n0)) (F0 m 44 ls []) := by
  have hx := X.1.1
  have hb := X.1.2.1
  have hown := X.1.2.2.2.1
  have hts := X.1.2.2.2.2
  intro t
  induction t with
  | zero =>
    intro x0 x1 x3 x4 H locs ls hp hl hF
    have hF : none = some r := hF
    cases hF
  | succ t ih =>
    intro x0 x1 x3 x4 H locs ls hp hl hF
    rw [fb_X5_seen_44] at hF
    refine lv_iload hx hb dX5_seen_44 (lv_at hl 3 rfl) ?_
    refine lv_sipush (v := 144) hx hb dX5_seen_46 (by decide) ?_
    refine lv_icmp_ge (tgt := 71) hx hb dX5_seen_49 (by decide) (fun c17 => ?_) (fun c17 => ?_)
    · have hF := if_p c17 hF
      refine lv_iload_n hx hb dX5_seen_71 rfl (lv_at hl 2 rfl) ?_
      cases hF
      exact m_iret X hp dX5_seen_72
    · have hF := if_n c17 hF
      refine lv_iload_n hx hb dX5_seen_52 rfl (lv_at hl 2 rfl) ?_
      refine lv_aload_n hx hb dX5_seen_53 rfl (lv_at hl 0 rfl) ?_
      refine lv_iload_n hx hb dX5_seen_54 rfl (lv_at hl 1 rfl) ?_
      refine lv_iload hx hb dX5_seen_55 (lv_at hl 3 rfl) ?_
      obtain ⟨g18, hF⟩ := gd_s hF
      obtain ⟨v20, e19, hF⟩ := ob_s hF
      refine m_callV (As := [.int x1, .int x4]) (rest := [.int x3]) X hp (w_X5_sees e19) q1947 q1949 qs121 q144 q1950 2 rfl ds_X5_sees ⟨Nat.le_of_ble_eq_true rfl, Nat.le_of_ble_eq_true rfl⟩ 6 (T := TX5) (N := 40) rfl (by decide) g18 hl.1 rfl (Nat.le_of_ble_eq_true rfl) dX5_seen_57 ⟨Nat.le_refl 0, Nat.le_refl 0⟩ (fun H locs hp => ?_)
      obtain ⟨v22, e21, hF⟩ := ob_s hF
      refine m_callS (As := [.int v20]) (rest := [.int x3]) X hp (w_X5_asInt e21) q1802 q1803 q144 q1804 1 rfl ds_X5_asInt ⟨Nat.le_of_ble_eq_true rfl, Nat.le_of_ble_eq_true rfl⟩ hl.1 rfl (Nat.le_of_ble_eq_true rfl) dX5_seen_60 ⟨Nat.le_refl 0, Nat.le_refl 0⟩ (fun H locs hp => ?_)
      refine lv_iadd hx hb dX5_seen_63 ?_
      refine lv_topi (fun v23 ev24 => ?_)
      have hF := nm_s hF ev24
      refine lv_istore_n (lv' := [(3, .int v23), (0, .ref x0), (1, .int x1), (4, .int x4)]) hx hb dX5_seen_64 rfl hl (by decide) rfl (fun ls hl => ?_)
      obtain ⟨v25, ev26⟩ : ∃ y : Int32, y = x4 + (1 : Int32) := ⟨_, rfl⟩
      have hF := nm_s hF ev26
      refine lv_iinc (v := v25) (lv' := [(4, .int v25), (3, .int v23), (0, .ref x0), (1, .int x1)]) hx hb dX5_seen_65 hl (k := 3) rfl (by rw [ev26]; rfl) (by decide) rfl (fun ls hl => ?_)
      refine lv_goto (tgt := 44) hx hb dX5_seen_68 (by decide) ?_
      exact ih _ _ _ _ _ _ _ hp (lv_sub hl [2, 3, 1, 0] rfl) hF
def f_X5_seen (S : mSh) (M : mMm) (x0 : Nat) (x1 : Int32) (x2 : Int32) : Option Int32 := ob (f_X5_within x1 (0 : Int32) (143 : Int32)) fun v2 => (if v2 = 0 then some (-1 : Int32) else ob (f_X5_within x2 (-1 : Int32) (143 : Int32)) fun v5 => (if v5 = 0 then some (-1 : Int32) else (if x2 = (-1 : Int32) then nm ((0 : Int32)) fun v8 => nm ((0 : Int32)) fun v10 => (fb_X5_seen_44 S M FU x0 x1 v8 v10) else gd ((S x0).1 = 6) (ob (f_X5_sees S M x0 x1 x2) fun v14 => ob (f_X5_asInt v14) fun v16 => some v16))))
theorem w_X5_seen {x0 : Nat} {x1 : Int32} {x2 : Int32} {r : Int32} (hF : f_X5_seen S M x0 x1 x2 = some r) : mCt l D n0 P yX5_seen cX5_seen 5 (some .int) 2 51 0 0 [.ref x0, .int x1, .int x2] S M n (some (.int r)) S M n := by
  refine m_ofW (by decide) (Nat.le_of_ble_eq_true rfl) (fun p e s m below meth c X hnm hp ls hl => ?_)
  have hx := X.1.1
  have hb := X.1.2.1
  have hown := X.1.2.2.2.1
  have hts := X.1.2.2.2.2
  have hl : lv_has ls 5 [(0, .ref x0), (1, .int x1), (2, .int x2)] := hl
  unfold f_X5_seen at hF
  refine lv_iload_n hx hb dX5_seen_0 rfl (lv_at hl 1 rfl) ?_
  refine lv_iconst (v := 0) hx hb dX5_seen_1 (by decide) ?_
  refine lv_sipush (v := 143) hx hb dX5_seen_2 (by decide) ?_
  obtain ⟨v2, e1, hF⟩ := ob_s hF
  refine m_callS (As := [.int x1, .int (0 : Int32), .int (143 : Int32)]) (rest := []) X hp (w_X5_within e1) q1588 q1589 q144 q1590 3 rfl ds_X5_within ⟨Nat.le_of_ble_eq_true rfl, Nat.le_of_ble_eq_true rfl⟩ hl.1 rfl (Nat.le_of_ble_eq_true rfl) dX5_seen_5 ⟨Nat.le_refl 0, Nat.le_refl 0⟩ (fun H locs hp => ?_)
  refine lv_if_eq (tgt := 22) hx hb dX5_seen_8 (by decide) (fun c3 => ?_) (fun c3 => ?_)
  · have hF := if_p c3 hF
    refine lv_iconst (v := -1) hx hb dX5_seen_22 (by decide) ?_
    cases hF
    exact m_iret X hp dX5_seen_23
  · have hF := if_n c3 hF
    refine lv_iload_n hx hb dX5_seen_11 rfl (lv_at hl 2 rfl) ?_
    refine lv_iconst (v := -1) hx hb dX5_seen_12 (by decide) ?_
    refine lv_sipush (v := 143) hx hb dX5_seen_13 (by decide) ?_
    obtain ⟨v5, e4, hF⟩ := ob_s hF
    refine m_callS (As := [.int x2, .int (-1 : Int32), .int (143 : Int32)]) (rest := []) X hp (w_X5_within e4) q1588 q1589 q144 q1590 3 rfl ds_X5_within ⟨Nat.le_of_ble_eq_true rfl, Nat.le_of_ble_eq_true rfl⟩ hl.1 rfl (Nat.le_of_ble_eq_true rfl) dX5_seen_16 ⟨Nat.le_refl 0, Nat.le_refl 0⟩ (fun H locs hp => ?_)
    refine lv_if_ne (tgt := 24) hx hb dX5_seen_19 (by decide) (fun c6 => ?_) (fun c6 => ?_)
    · have hF := if_n c6 hF
      refine lv_iload_n hx hb dX5_seen_24 rfl (lv_at hl 2 rfl) ?_
      refine lv_iconst (v := -1) hx hb dX5_seen_25 (by decide) ?_
      refine lv_icmp_eq (tgt := 39) hx hb dX5_seen_26 (by decide) (fun c7 => ?_) (fun c7 => ?_)
      · have hF := if_p c7 hF
        refine lv_iconst (v := 0) hx hb dX5_seen_39 (by decide) ?_
        refine lv_topi (fun v8 ev9 => ?_)
        have hF := nm_s hF ev9
        refine lv_istore_n (lv' := [(3, .int v8), (0, .ref x0), (1, .int x1), (2, .int x2)]) hx hb dX5_seen_40 rfl hl (by decide) rfl (fun ls hl => ?_)
        refine lv_iconst (v := 0) hx hb dX5_seen_41 (by decide) ?_
        refine lv_topi (fun v10 ev11 => ?_)
        have hF := nm_s hF ev11
        refine lv_istore (lv' := [(4, .int v10), (3, .int v8), (0, .ref x0), (1, .int x1), (2, .int x2)]) hx hb dX5_seen_42 hl (by decide) rfl (fun ls hl => ?_)
        exact b_X5_seen_44 X _ _ _ _ _ _ _ _ hp (lv_sub hl [2, 3, 1, 0] rfl) hF
      · have hF := if_n c7 hF
        refine lv_aload_n hx hb dX5_seen_29 rfl (lv_at hl 0 rfl) ?_
        refine lv_iload_n hx hb dX5_seen_30 rfl (lv_at hl 1 rfl) ?_
        refine lv_iload_n hx hb dX5_seen_31 rfl (lv_at hl 2 rfl) ?_
        obtain ⟨g12, hF⟩ := gd_s hF
        obtain ⟨v14, e13, hF⟩ := ob_s hF
        refine m_callV (As := [.int x1, .int x2]) (rest := []) X hp (w_X5_sees e13) q1947 q1949 qs121 q144 q1950 2 rfl ds_X5_sees ⟨Nat.le_of_ble_eq_true rfl, Nat.le_of_ble_eq_true rfl⟩ 6 (T := TX5) (N := 40) rfl (by decide) g12 hl.1 rfl (Nat.le_of_ble_eq_true rfl) dX5_seen_32 ⟨Nat.le_refl 0, Nat.le_refl 0⟩ (fun H locs hp => ?_)
        obtain ⟨v16, e15, hF⟩ := ob_s hF
        refine m_callS (As := [.int v14]) (rest := []) X hp (w_X5_asInt e15) q1802 q1803 q144 q1804 1 rfl ds_X5_asInt ⟨Nat.le_of_ble_eq_true rfl, Nat.le_of_ble_eq_true rfl⟩ hl.1 rfl (Nat.le_of_ble_eq_true rfl) dX5_seen_35 ⟨Nat.le_refl 0, Nat.le_refl 0⟩ (fun H locs hp => ?_)
        cases hF
        exact m_iret X hp dX5_seen_38
    · have hF := if_p c6 hF
      refine lv_iconst (v := -1) hx hb dX5_seen_22 (by decide) ?_
      cases hF
      exact m_iret X hp dX5_seen_23
end
section
variable {l : Launch} {D : va_G} {n0 : Nat} {P : mP} {S : mSh} {M : mMm} {n : Nat} {p : Program} {e : Env} {s : State} {m : MethodId} {args : Array Value} {below : List Frame} {meth : Method} {c : Code}
abbrev Rm_X5_state : Room := { frames := 0, cells := 0, slots := 0, locals := 0 }
def f_X5_state (S : mSh) (M : mMm) (x0 : Nat) (x1 : Int32) : Option (Int32 × mMm) := ob (rR S M x0 6 0) fun v1 => ob (aI S M v1 100 (938 : Int32)) fun v3 => ob (rR S M x0 6 0) fun v5 => ob (wA S M v5 100 (938 : Int32) (.int x1)) fun M7 => ob (wF S M7 x0 6 4 (.int (0 : Int32))) fun M9 => some (v3, M9)
theorem w_X5_state {x0 : Nat} {x1 : Int32} {r : Int32} {M' : mMm} (hF : f_X5_state S M x0 x1 = some (r, M')) : mCt l D n0 P yX5_state cX5_state 3 (some .int) 0 0 0 0 [.ref x0, .int x1] S M n (some (.int r)) S M' n := by
  refine m_ofW (by decide) (Nat.le_of_ble_eq_true rfl) (fun p e s m below meth c X hnm hp ls hl => ?_)
  have hx := X.1.1
  have hb := X.1.2.1
  have hown := X.1.2.2.2.1
  have hts := X.1.2.2.2.2
  have hl : lv_has ls 3 [(0, .ref x0), (1, .int x1)] := hl
  unfold f_X5_state at hF
  refine lv_aload_n hx hb dX5_state_0 rfl (lv_at hl 0 rfl) ?_
  obtain ⟨v1, e2, hF⟩ := ob_s hF
  refine m_getR X hp e2 kX5 (Nat.le_of_ble_eq_true rfl) q1459 dX5_state_1 ?_
  refine lv_sipush (v := 938) hx hb dX5_state_4 (by decide) ?_
  obtain ⟨v3, e4, hF⟩ := ob_s hF
  refine m_iaI X hp e4 dX5_state_7 ?_
  refine lv_istore_n (lv' := [(2, .int v3), (0, .ref x0), (1, .int x1)]) hx hb dX5_state_8 rfl hl (by decide) rfl (fun ls hl => ?_)
  refine lv_aload_n hx hb dX5_state_9 rfl (lv_at hl 1 rfl) ?_
  obtain ⟨v5, e6, hF⟩ := ob_s hF
  refine m_getR X hp e6 kX5 (Nat.le_of_ble_eq_true rfl) q1459 dX5_state_10 ?_
  refine lv_sipush (v := 938) hx hb dX5_state_13 (by decide) ?_
  refine lv_iload_n hx hb dX5_state_16 rfl (lv_at hl 2 rfl) ?_
  obtain ⟨M7, e8, hF⟩ := ob_s hF
  refine m_iaW X hp e8 dX5_state_17 (fun H locs hp => ?_)
  refine lv_aload_n hx hb dX5_state_18 rfl (lv_at hl 1 rfl) ?_
  refine lv_iconst (v := 0) hx hb dX5_state_19 (by decide) ?_
  obtain ⟨M9, e10, hF⟩ := ob_s hF
  refine m_putW X hp e10 kX5 (Nat.le_of_ble_eq_true rfl) q1463 rfl rfl rfl dX5_state_20 (fun H locs hp => ?_)
  refine lv_iload_n hx hb dX5_state_23 rfl (lv_at hl 0 rfl) ?_
  cases hF
  exact m_iret X hp dX5_state_24
end
section
variable {l : Launch} {D : va_G} {n0 : Nat} {P : mP} {S : mSh} {M : mMm} {n : Nat} {p : Program} {e : Env} {s : State} {m : MethodId} {args : Array Value} {below : List Frame} {meth : Method} {c : Code}
abbrev Rm_X5_stepRows : Room := { frames := 3, cells := 0, slots := 0, locals := 68 }
def fb_X5_stepRows_104 (S : mSh) (k9 : mMm → Nat → Int32 → Int32 → Int32 → Option mMm) (M : mMm) (x0 : Nat) (x1 : Int32) (x2 : Int32) (x3 : Int32) (y0 : Int32) : Option mMm := ob (rR S M x0 6 25) fun v42 => ob (wA S M v42 100 ((x2 * (1728 : Int32)) + ((3 : Int32) * x3)) (.int y0)) fun M44 => ob (rR S M44 x0 6 25) fun v46 => ob (wA S M44 v46 100 (((x2 * (1728 : Int32)) + ((3 : Int32) * x3)) + (1 : Int32)) (.int (0 : Int32))) fun M48 => ob (rR S M48 x0 6 25) fun v50 => ob (wA S M48 v50 100 (((x2 * (1728 : Int32)) + ((3 : Int32) * x3)) + (2 : Int32)) (.int (0 : Int32))) fun M52 => nm (x3 + (1 : Int32)) fun v54 => (k9 M52 x0 x1 x2 v54)
theorem b_X5_stepRows_104 {M' : mMm} (X : mCx D n0 P p m c cX5_stepRows 7 s args yX5_stepRows.cls meth none) (k9 : mMm → Nat → Int32 → Int32 → Int32 → Option mMm) (hk9 : ∀ (M : mMm) (x0 : Nat) (x1 : Int32) (x2 : Int32) (x3 : Int32) (H : Heap) (locs : List Loc) (ls : Array Slot), mHp D n0 S M n s H locs → lv_has ls 7 [(0, .ref x0), (1, .int x1), (2, .int x2), (3, .int x3)] → k9 M x0 x1 x2 x3 = some M' → W p l e Rm_X5_stepRows s m args below meth c H locs 0 0 (MQ below (mQ D n0 none S M' n) args s 0 0 (mA n0)) (F0 m 9 ls [])) : ∀ (M : mMm) (x0 : Nat) (x1 : Int32) (x2 : Int32) (x3 : Int32) (y0 : Int32) (H : Heap) (locs : List Loc) (ls : Array Slot), mHp D n0 S M n s H locs → lv_has ls 7 [(0, .ref x0), (1, .int x1), (2, .int x2), (3, .int x3)] → fb_X5_stepRows_104 S k9 M x0 x1 x2 x3 y0 = some M' → W p l e Rm_X5_stepRows s m args below meth c H locs 0 0 (MQ below (mQ D n0 none S M' n) args s 0 0 (mA n0)) (F0 m 104 ls [.int y0]) := by
  have hx := X.1.1
  have hb := X.1.2.1
  have hown := X.1.2.2.2.1
  have hts := X.1.2.2.2.2
  intro M x0 x1 x2 x3 y0 H locs ls hp hl hF
  unfold fb_X5_stepRows_104 at hF
  refine lv_istore (lv' := [(6, .int y0), (0, .ref x0), (1, .int x1), (2, .int x2), (3, .int x3)]) hx hb dX5_stepRows_104 hl (by decide) rfl (fun ls hl => ?_)
  refine lv_aload_n hx hb dX5_stepRows_106 rfl (lv_at hl 1 rfl) ?_
  obtain ⟨v42, e43, hF⟩ := ob_s hF
  refine m_getR X hp e43 kX5 (Nat.le_of_ble_eq_true rfl) q1484 dX5_stepRows_107 ?_
  refine lv_iload_n hx hb dX5_stepRows_110 rfl (lv_at hl 3 rfl) ?_
  refine lv_sipush (v := 1728) hx hb dX5_stepRows_111 (by decide) ?_
  refine lv_imul hx hb dX5_stepRows_114 ?_
  refine lv_iconst (v := 3) hx hb dX5_stepRows_115 (by decide) ?_
  refine lv_iload_n hx hb dX5_stepRows_116 rfl (lv_at hl 4 rfl) ?_
  refine lv_imul hx hb dX5_stepRows_117 ?_
  refine lv_iadd hx hb dX5_stepRows_118 ?_
  refine lv_iload hx hb dX5_stepRows_119 (lv_at hl 0 rfl) ?_
  obtain ⟨M44, e45, hF⟩ := ob_s hF
  refine m_iaW X hp e45 dX5_stepRows_121 (fun H locs hp => ?_)
  refine lv_aload_n hx hb dX5_stepRows_122 rfl (lv_at hl 1 rfl) ?_
  obtain ⟨v46, e47, hF⟩ := ob_s hF
  refine m_getR X hp e47 kX5 (Nat.le_of_ble_eq_true rfl) q1484 dX5_stepRows_123 ?_
  refine lv_iload_n hx hb dX5_stepRows_126 rfl (lv_at hl 3 rfl) ?_
  refine lv_sipush (v := 1728) hx hb dX5_stepRows_127 (by decide) ?_
  refine lv_imul hx hb dX5_stepRows_130 ?_
  refine lv_iconst (v := 3) hx hb dX5_stepRows_131 (by decide) ?_
  refine lv_iload_n hx hb dX5_stepRows_132 rfl (lv_at hl 4 rfl) ?_
  refine lv_imul hx hb dX5_stepRows_133 ?_
  refine lv_iadd hx hb dX5_stepRows_134 ?_
  refine lv_iconst (v := 1) hx hb dX5_stepRows_135 (by decide) ?_
  refine lv_iadd hx hb dX5_stepRows_136 ?_
  refine lv_iconst (v := 0) hx hb dX5_stepRows_137 (by decide) ?_
  obtain ⟨M48, e49, hF⟩ := ob_s hF
  refine m_iaW X hp e49 dX5_stepRows_138 (fun H locs hp => ?_)
  refine lv_aload_n hx hb dX5_stepRows_139 rfl (lv_at hl 1 rfl) ?_
  obtain ⟨v50, e51, hF⟩ := ob_s hF
  refine m_getR X hp e51 kX5 (Nat.le_of_ble_eq_true rfl) q1484 dX5_stepRows_140 ?_
  refine lv_iload_n hx hb dX5_stepRows_143 rfl (lv_at hl 3 rfl) ?_
  refine lv_sipush (v := 1728) hx hb dX5_stepRows_144 (by decide) ?_
  refine lv_imul hx hb dX5_stepRows_147 ?_
  refine lv_iconst (v := 3) hx hb dX5_stepRows_148 (by decide) ?_
  refine lv_iload_n hx hb dX5_stepRows_149 rfl (lv_at hl 4 rfl) ?_
  refine lv_imul hx hb dX5_stepRows_150 ?_
  refine lv_iadd hx hb dX5_stepRows_151 ?_
  refine lv_iconst (v := 2) hx hb dX5_stepRows_152 (by decide) ?_
  refine lv_iadd hx hb dX5_stepRows_153 ?_
  refine lv_iconst (v := 0) hx hb dX5_stepRows_154 (by decide) ?_
  obtain ⟨M52, e53, hF⟩ := ob_s hF
  refine m_iaW X hp e53 dX5_stepRows_155 (fun H locs hp => ?_)
  obtain ⟨v54, ev55⟩ : ∃ y : Int32, y = x3 + (1 : Int32) := ⟨_, rfl⟩
  have hF := nm_s hF ev55
  refine lv_iinc (v := v54) (lv' := [(3, .int v54), (6, .int y0), (0, .ref x0), (1, .int x1), (2, .int x2)]) hx hb dX5_stepRows_156 hl (k := 4) rfl (by rw [ev55]; rfl) (by decide) rfl (fun ls hl => ?_)
  refine lv_goto (tgt := 9) hx hb dX5_stepRows_159 (by decide) ?_
  exact hk9 _ _ _ _ _ _ _ _ hp (lv_sub hl [2, 3, 4, 0] rfl) hF
def fb_X5_stepRows_43 (S : mSh) (k9 : mMm → Nat → Int32 → Int32 → Int32 → Option mMm) (M : mMm) (x0 : Nat) (x1 : Int32) (x2 : Int32) (x3 : Int32) (y0 : Int32) : Option mMm := nm (((x2 * (1728 : Int32)) + ((3 : Int32) * (((4 : Int32) * y0) + (x3 - x3 / (4 : Int32) * (4 : Int32)))))) fun v23 => (if y0 = (-1 : Int32) then (fb_X5_stepRows_104 S k9 M x0 x1 x2 x3 (0 : Int32)) else ob (rR S M x0 6 24) fun v26 => ob (aI S M v26 100 v23) fun v28 => ob (rR S M x0 6 24) fun v30 => ob (aI S M v30 100 (v23 + (1 : Int32))) fun v32 => ob (f_X5_plus v28 v32) fun v35 => ob (rR S M x0 6 24) fun v36 => ob (aI S M v36 100 (v23 + (2 : Int32))) fun v38 => ob (f_X5_plus v35 v38) fun v41 => (fb_X5_stepRows_104 S k9 M x0 x1 x2 x3 v41))
theorem b_X5_stepRows_43 {M' : mMm} (X : mCx D n0 P p m c cX5_stepRows 7 s args yX5_stepRows.cls meth none) (k9 : mMm → Nat → Int32 → Int32 → Int32 → Option mMm) (hk9 : ∀ (M : mMm) (x0 : Nat) (x1 : Int32) (x2 : Int32) (x3 : Int32) (H : Heap) (locs : List Loc) (ls : Array Slot), mHp D n0 S M n s H locs → lv_has ls 7 [(0, .ref x0), (1, .int x1), (2, .int x2), (3, .int x3)] → k9 M x0 x1 x2 x3 = some M' → W p l e Rm_X5_stepRows s m args below meth c H locs 0 0 (MQ below (mQ D n0 none S M' n) args s 0 0 (mA n0)) (F0 m 9 ls [])) : ∀ (M : mMm) (x0 : Nat) (x1 : Int32) (x2 : Int32) (x3 : Int32) (y0 : Int32) (H : Heap) (locs : List Loc) (ls : Array Slot), mHp D n0 S M n s H locs → lv_has ls 7 [(0, .ref x0), (1, .int x1), (2, .int x2), (3, .int x3)] → fb_X5_stepRows_43 S k9 M x0 x1 x2 x3 y0 = some M' → W p l e Rm_X5_stepRows s m args below meth c H locs 0 0 (MQ below (mQ D n0 none S M' n) args s 0 0 (mA n0)) (F0 m 43 ls [.int y0]) := by
  have hx := X.1.1
  have hb := X.1.2.1
  have hown := X.1.2.2.2.1
  have hts := X.1.2.2.2.2
  intro M x0 x1 x2 x3 y0 H locs ls hp hl hF
  unfold fb_X5_stepRows_43 at hF
  refine lv_istore (lv' := [(4, .int y0), (0, .ref x0), (1, .int x1), (2, .int x2), (3, .int x3)]) hx hb dX5_stepRows_43 hl (by decide) rfl (fun ls hl => ?_)
  refine lv_iload_n hx hb dX5_stepRows_45 rfl (lv_at hl 3 rfl) ?_
  refine lv_sipush (v := 1728) hx hb dX5_stepRows_46 (by decide) ?_
  refine lv_imul hx hb dX5_stepRows_49 ?_
  refine lv_iconst (v := 3) hx hb dX5_stepRows_50 (by decide) ?_
  refine lv_iconst (v := 4) hx hb dX5_stepRows_51 (by decide) ?_
  refine lv_iload hx hb dX5_stepRows_52 (lv_at hl 0 rfl) ?_
  refine lv_imul hx hb dX5_stepRows_54 ?_
  refine lv_iload_n hx hb dX5_stepRows_55 rfl (lv_at hl 4 rfl) ?_
  refine lv_iconst (v := 4) hx hb dX5_stepRows_56 (by decide) ?_
  refine lv_irem hx hb dX5_stepRows_57 (by decide) ?_
  refine lv_iadd hx hb dX5_stepRows_58 ?_
  refine lv_imul hx hb dX5_stepRows_59 ?_
  refine lv_iadd hx hb dX5_stepRows_60 ?_
  refine lv_topi (fun v23 ev24 => ?_)
  have hF := nm_s hF ev24
  refine lv_istore (lv' := [(5, .int v23), (4, .int y0), (0, .ref x0), (1, .int x1), (2, .int x2), (3, .int x3)]) hx hb dX5_stepRows_61 hl (by decide) rfl (fun ls hl => ?_)
  refine lv_iload hx hb dX5_stepRows_63 (lv_at hl 1 rfl) ?_
  refine lv_iconst (v := -1) hx hb dX5_stepRows_65 (by decide) ?_
  refine lv_icmp_ne (tgt := 73) hx hb dX5_stepRows_66 (by decide) (fun c25 => ?_) (fun c25 => ?_)
  · have hF := if_n c25 hF
    refine lv_aload_n hx hb dX5_stepRows_73 rfl (lv_at hl 2 rfl) ?_
    obtain ⟨v26, e27, hF⟩ := ob_s hF
    refine m_getR X hp e27 kX5 (Nat.le_of_ble_eq_true rfl) q1483 dX5_stepRows_74 ?_
    refine lv_iload hx hb dX5_stepRows_77 (lv_at hl 0 rfl) ?_
    obtain ⟨v28, e29, hF⟩ := ob_s hF
    refine m_iaI X hp e29 dX5_stepRows_79 ?_
    refine lv_aload_n hx hb dX5_stepRows_80 rfl (lv_at hl 2 rfl) ?_
    obtain ⟨v30, e31, hF⟩ := ob_s hF
    refine m_getR X hp e31 kX5 (Nat.le_of_ble_eq_true rfl) q1483 dX5_stepRows_81 ?_
    refine lv_iload hx hb dX5_stepRows_84 (lv_at hl 0 rfl) ?_
    refine lv_iconst (v := 1) hx hb dX5_stepRows_86 (by decide) ?_
    refine lv_iadd hx hb dX5_stepRows_87 ?_
    obtain ⟨v32, e33, hF⟩ := ob_s hF
    refine m_iaI X hp e33 dX5_stepRows_88 ?_
    obtain ⟨v35, e34, hF⟩ := ob_s hF
    refine m_callS (As := [.int v28, .int v32]) (rest := []) X hp (w_X5_plus e34) q1935 q1936 q144 q1937 2 rfl ds_X5_plus ⟨Nat.le_of_ble_eq_true rfl, Nat.le_of_ble_eq_true rfl⟩ hl.1 rfl (Nat.le_of_ble_eq_true rfl) dX5_stepRows_89 ⟨Nat.le_refl 0, Nat.le_refl 0⟩ (fun H locs hp => ?_)
    refine lv_aload_n hx hb dX5_stepRows_92 rfl (lv_at hl 2 rfl) ?_
    obtain ⟨v36, e37, hF⟩ := ob_s hF
    refine m_getR X hp e37 kX5 (Nat.le_of_ble_eq_true rfl) q1483 dX5_stepRows_93 ?_
    refine lv_iload hx hb dX5_stepRows_96 (lv_at hl 0 rfl) ?_
    refine lv_iconst (v := 2) hx hb dX5_stepRows_98 (by decide) ?_
    refine lv_iadd hx hb dX5_stepRows_99 ?_
    obtain ⟨v38, e39, hF⟩ := ob_s hF
    refine m_iaI X hp e39 dX5_stepRows_100 ?_
    obtain ⟨v41, e40, hF⟩ := ob_s hF
    refine m_callS (As := [.int v35, .int v38]) (rest := []) X hp (w_X5_plus e40) q1935 q1936 q144 q1937 2 rfl ds_X5_plus ⟨Nat.le_of_ble_eq_true rfl, Nat.le_of_ble_eq_true rfl⟩ hl.1 rfl (Nat.le_of_ble_eq_true rfl) dX5_stepRows_101 ⟨Nat.le_refl 0, Nat.le_refl 0⟩ (fun H locs hp => ?_)
    exact b_X5_stepRows_104 X _ hk9 _ _ _ _ _ _ _ _ _ hp (lv_sub hl [2, 3, 4, 5] rfl) hF
  · have hF := if_p c25 hF
    refine lv_iconst (v := 0) hx hb dX5_stepRows_69 (by decide) ?_
    refine lv_goto (tgt := 104) hx hb dX5_stepRows_70 (by decide) ?_
    exact b_X5_stepRows_104 X _ hk9 _ _ _ _ _ _ _ _ _ hp (lv_sub hl [2, 3, 4, 5] rfl) hF
def fb_X5_stepRows_9 (S : mSh) (k2 : mMm → Nat → Int32 → Int32 → Option mMm) : Nat → mMm → Nat → Int32 → Int32 → Int32 → Option mMm
  | 0, _, _, _, _, _ => none
  | t + 1, M, x0, x1, x2, x3 => (if (576 : Int32) ≤ x3 then nm (x2 + (1 : Int32)) fun v14 => (k2 M x0 x1 v14) else ob (rR S M x0 6 0) fun v16 => ob (aI S M v16 100 (x3 / (4 : Int32))) fun v18 => (if v18 = (1 : Int32) then (fb_X5_stepRows_43 S (fb_X5_stepRows_9 S k2 t) M x0 x1 x2 x3 (-1 : Int32)) else ob (f_X5_onBy S M x0 (x3 / (4 : Int32)) (x3 - x3 / (4 : Int32) * (4 : Int32)) (-1 : Int32)) fun v22 => (fb_X5_stepRows_43 S (fb_X5_stepRows_9 S k2 t) M x0 x1 x2 x3 v22)))
theorem b_X5_stepRows_9 {M' : mMm} (X : mCx D n0 P p m c cX5_stepRows 7 s args yX5_stepRows.cls meth none) (k2 : mMm → Nat → Int32 → Int32 → Option mMm) (hk2 : ∀ (M : mMm) (x0 : Nat) (x1 : Int32) (x2 : Int32) (H : Heap) (locs : List Loc) (ls : Array Slot), mHp D n0 S M n s H locs → lv_has ls 7 [(0, .ref x0), (1, .int x1), (2, .int x2)] → k2 M x0 x1 x2 = some M' → W p l e Rm_X5_stepRows s m args below meth c H locs 0 0 (MQ below (mQ D n0 none S M' n) args s 0 0 (mA n0)) (F0 m 2 ls [])) : ∀ t : Nat, ∀ (M : mMm) (x0 : Nat) (x1 : Int32) (x2 : Int32) (x3 : Int32) (H : Heap) (locs : List Loc) (ls : Array Slot), mHp D n0 S M n s H locs → lv_has ls 7 [(0, .ref x0), (1, .int x1), (2, .int x2), (3, .int x3)] → fb_X5_stepRows_9 S k2 t M x0 x1 x2 x3 = some M' → W p l e Rm_X5_stepRows s m args below meth c H locs 0 0 (MQ below (mQ D n0 none S M' n) args s 0 0 (mA n0)) (F0 m 9 ls []) := by
  have hx := X.1.1
  have hb := X.1.2.1
  have hown := X.1.2.2.2.1
  have hts := X.1.2.2.2.2
  intro t
  induction t with
  | zero =>
    intro M x0 x1 x2 x3 H locs ls hp hl hF
    have hF : none = some M' := hF
    cases hF
  | succ t ih =>
    intro M x0 x1 x2 x3 H locs ls hp hl hF
    rw [fb_X5_stepRows_9] at hF
    refine lv_iload_n hx hb dX5_stepRows_9 rfl (lv_at hl 3 rfl) ?_
    refine lv_sipush (v := 576) hx hb dX5_stepRows_10 (by decide) ?_
    refine lv_icmp_ge (tgt := 162) hx hb dX5_stepRows_13 (by decide) (fun c13 => ?_) (fun c13 => ?_)
    · have hF := if_p c13 hF
      obtain ⟨v14, ev15⟩ : ∃ y : Int32, y = x2 + (1 : Int32) := ⟨_, rfl⟩
      have hF := nm_s hF ev15
      refine lv_iinc (v := v14) (lv' := [(2, .int v14), (0, .ref x0), (1, .int x1), (3, .int x3)]) hx hb dX5_stepRows_162 hl (k := 2) rfl (by rw [ev15]; rfl) (by decide) rfl (fun ls hl => ?_)
      refine lv_goto (tgt := 2) hx hb dX5_stepRows_165 (by decide) ?_
      exact hk2 _ _ _ _ _ _ _ hp (lv_sub hl [1, 2, 0] rfl) hF
    · have hF := if_n c13 hF
      refine lv_aload_n hx hb dX5_stepRows_16 rfl (lv_at hl 0 rfl) ?_
      obtain ⟨v16, e17, hF⟩ := ob_s hF
      refine m_getR X hp e17 kX5 (Nat.le_of_ble_eq_true rfl) q1459 dX5_stepRows_17 ?_
      refine lv_iload_n hx hb dX5_stepRows_20 rfl (lv_at hl 3 rfl) ?_
      refine lv_iconst (v := 4) hx hb dX5_stepRows_21 (by decide) ?_
      refine lv_idiv hx hb dX5_stepRows_22 (by decide) ?_
      obtain ⟨v18, e19, hF⟩ := ob_s hF
      refine m_iaI X hp e19 dX5_stepRows_23 ?_
      refine lv_iconst (v := 1) hx hb dX5_stepRows_24 (by decide) ?_
      refine lv_icmp_ne (tgt := 32) hx hb dX5_stepRows_25 (by decide) (fun c20 => ?_) (fun c20 => ?_)
      · have hF := if_n c20 hF
        refine lv_aload_n hx hb dX5_stepRows_32 rfl (lv_at hl 0 rfl) ?_
        refine lv_iload_n hx hb dX5_stepRows_33 rfl (lv_at hl 3 rfl) ?_
        refine lv_iconst (v := 4) hx hb dX5_stepRows_34 (by decide) ?_
        refine lv_idiv hx hb dX5_stepRows_35 (by decide) ?_
        refine lv_iload_n hx hb dX5_stepRows_36 rfl (lv_at hl 3 rfl) ?_
        refine lv_iconst (v := 4) hx hb dX5_stepRows_37 (by decide) ?_
        refine lv_irem hx hb dX5_stepRows_38 (by decide) ?_
        refine lv_iconst (v := -1) hx hb dX5_stepRows_39 (by decide) ?_
        obtain ⟨v22, e21, hF⟩ := ob_s hF
        refine m_callV (As := [.int (x3 / (4 : Int32)), .int (x3 - x3 / (4 : Int32) * (4 : Int32)), .int (-1 : Int32)]) (rest := []) X hp (w_X5_onBy e21) q1915 q1917 qs116 q144 q1918 3 rfl ds_X5_onBy ⟨Nat.le_of_ble_eq_true rfl, Nat.le_of_ble_eq_true rfl⟩ 6 (T := TX5) (N := 40) rfl (by decide) (rR_s e17).1 hl.1 rfl (Nat.le_of_ble_eq_true rfl) dX5_stepRows_40 ⟨Nat.le_refl 0, Nat.le_refl 0⟩ (fun H locs hp => ?_)
        exact b_X5_stepRows_43 X _ ih _ _ _ _ _ _ _ _ _ hp (lv_sub hl [0, 1, 2, 3] rfl) hF
      · have hF := if_p c20 hF
        refine lv_iconst (v := -1) hx hb dX5_stepRows_28 (by decide) ?_
        refine lv_goto (tgt := 43) hx hb dX5_stepRows_29 (by decide) ?_
        exact b_X5_stepRows_43 X _ ih _ _ _ _ _ _ _ _ _ hp (lv_sub hl [0, 1, 2, 3] rfl) hF
def fb_X5_stepRows_2 (S : mSh) : Nat → mMm → Nat → Int32 → Int32 → Option mMm
  | 0, _, _, _, _ => none
  | t + 1, M, x0, x1, x2 => (if x1 < x2 then ob (rR S M x0 6 25) fun v4 => ob (rR S M x0 6 24) fun v6 => ob (f_X5_copies S M v4 v6 ((x1 + (1 : Int32)) * (1728 : Int32))) fun M10 => some M10 else nm ((0 : Int32)) fun v11 => (fb_X5_stepRows_9 S (fb_X5_stepRows_2 S t) FU M x0 x1 x2 v11))
theorem b_X5_stepRows_2 {M' : mMm} (X : mCx D n0 P p m c cX5_stepRows 7 s args yX5_stepRows.cls meth none) : ∀ t : Nat, ∀ (M : mMm) (x0 : Nat) (x1 : Int32) (x2 : Int32) (H : Heap) (locs : List Loc) (ls : Array Slot), mHp D n0 S M n s H locs → lv_has ls 7 [(0, .ref x0), (1, .int x1), (2, .int x2)] → fb_X5_stepRows_2 S t M x0 x1 x2 = some M' → W p l e Rm_X5_stepRows s m args below meth c H locs 0 0 (MQ below (mQ D n0 none S M' n) args s 0 0 (mA n0)) (F0 m 2 ls []) := by
  have hx := X.1.1
  have hb := X.1.2.1
  have hown := X.1.2.2.2.1
  have hts := X.1.2.2.2.2
  intro t
  induction t with
  | zero =>
    intro M x0 x1 x2 H locs ls hp hl hF
    have hF : none = some M' := hF
    cases hF
  | succ t ih =>
    intro M x0 x1 x2 H locs ls hp hl hF
    rw [fb_X5_stepRows_2] at hF
    refine lv_iload_n hx hb dX5_stepRows_2 rfl (lv_at hl 2 rfl) ?_
    refine lv_iload_n hx hb dX5_stepRows_3 rfl (lv_at hl 1 rfl) ?_
    refine lv_icmp_gt (tgt := 168) hx hb dX5_stepRows_4 (by decide) (fun c3 => ?_) (fun c3 => ?_)
    · have hF := if_p c3 hF
      refine lv_aload_n hx hb dX5_stepRows_168 rfl (lv_at hl 0 rfl) ?_
      obtain ⟨v4, e5, hF⟩ := ob_s hF
      refine m_getR X hp e5 kX5 (Nat.le_of_ble_eq_true rfl) q1484 dX5_stepRows_169 ?_
      refine lv_aload_n hx hb dX5_stepRows_172 rfl (lv_at hl 0 rfl) ?_
      obtain ⟨v6, e7, hF⟩ := ob_s hF
      refine m_getR X hp e7 kX5 (Nat.le_of_ble_eq_true rfl) q1483 dX5_stepRows_173 ?_
      refine lv_iload_n hx hb dX5_stepRows_176 rfl (lv_at hl 1 rfl) ?_
      refine lv_iconst (v := 1) hx hb dX5_stepRows_177 (by decide) ?_
      refine lv_iadd hx hb dX5_stepRows_178 ?_
      refine lv_sipush (v := 1728) hx hb dX5_stepRows_179 (by decide) ?_
      refine lv_imul hx hb dX5_stepRows_182 ?_
      obtain ⟨M10, e8, hF⟩ := ob_s hF
      refine m_callS (As := [.ref v4, .ref v6, .int ((x1 + (1 : Int32)) * (1728 : Int32))]) (rest := []) X hp (w_X5_copies e8) q1595 q1596 q144 q1597 3 rfl ds_X5_copies ⟨Nat.le_of_ble_eq_true rfl, Nat.le_of_ble_eq_true rfl⟩ hl.1 rfl (Nat.le_of_ble_eq_true rfl) dX5_stepRows_183 ⟨Nat.le_refl 0, Nat.le_refl 0⟩ (fun H locs hp => ?_)
      cases hF
      exact m_vret X hp dX5_stepRows_186
    · have hF := if_n c3 hF
      refine lv_iconst (v := 0) hx hb dX5_stepRows_7 (by decide) ?_
      refine lv_topi (fun v11 ev12 => ?_)
      have hF := nm_s hF ev12
      refine lv_istore_n (lv' := [(3, .int v11), (0, .ref x0), (1, .int x1), (2, .int x2)]) hx hb dX5_stepRows_8 rfl hl (by decide) rfl (fun ls hl => ?_)
      exact b_X5_stepRows_9 X _ ih _ _ _ _ _ _ _ _ _ hp (lv_sub hl [1, 2, 3, 0] rfl) hF
def f_X5_stepRows (S : mSh) (M : mMm) (x0 : Nat) (x1 : Int32) : Option mMm := nm ((0 : Int32)) fun v1 => (fb_X5_stepRows_2 S FU M x0 x1 v1)
theorem w_X5_stepRows {x0 : Nat} {x1 : Int32} {M' : mMm} (hF : f_X5_stepRows S M x0 x1 = some M') : mCt l D n0 P yX5_stepRows cX5_stepRows 7 none 3 68 0 0 [.ref x0, .int x1] S M n none S M' n := by
  refine m_ofW (by decide) (Nat.le_of_ble_eq_true rfl) (fun p e s m below meth c X hnm hp ls hl => ?_)
  have hx := X.1.1
  have hb := X.1.2.1
  have hown := X.1.2.2.2.1
  have hts := X.1.2.2.2.2
  have hl : lv_has ls 7 [(0, .ref x0), (1, .int x1)] := hl
  unfold f_X5_stepRows at hF
  refine lv_iconst (v := 0) hx hb dX5_stepRows_0 (by decide) ?_
  refine lv_topi (fun v1 ev2 => ?_)
  have hF := nm_s hF ev2
  refine lv_istore_n (lv' := [(2, .int v1), (0, .ref x0), (1, .int x1)]) hx hb dX5_stepRows_1 rfl hl (by decide) rfl (fun ls hl => ?_)
  exact b_X5_stepRows_2 X _ _ _ _ _ _ _ _ hp (lv_sub hl [1, 2, 0] rfl) hF
end
section
variable {l : Launch} {D : va_G} {n0 : Nat} {P : mP} {S : mSh} {M : mMm} {n : Nat} {p : Program} {e : Env} {s : State} {m : MethodId} {args : Array Value} {below : List Frame} {meth : Method} {c : Code}
abbrev Rm_X5_text : Room := { frames := 9, cells := 0, slots := 0, locals := 199 }
def fb_X5_text_199 (S : mSh) (k131 : mMm → Nat → Int32 → Int32 → Option (Int32 × mMm)) (M : mMm) (x0 : Nat) (x1 : Int32) (x2 : Int32) : Option (Int32 × mMm) := gd ((S x0).1 = 6) (ob (f_X5_sign S M x0 (59 : Int32)) fun M84 => nm (x2 + (1 : Int32)) fun v85 => (k131 M84 x0 x1 v85))
theorem b_X5_text_199 {r : Int32} {M' : mMm} (X : mCx D n0 P p m c cX5_text 4 s args yX5_text.cls meth (some .int)) (k131 : mMm → Nat → Int32 → Int32 → Option (Int32 × mMm)) (hk131 : ∀ (M : mMm) (x0 : Nat) (x1 : Int32) (x2 : Int32) (H : Heap) (locs : List Loc) (ls : Array Slot), mHp D n0 S M n s H locs → lv_has ls 4 [(0, .ref x0), (1, .int x1), (2, .int x2)] → k131 M x0 x1 x2 = some (r, M') → W p l e Rm_X5_text s m args below meth c H locs 0 0 (MQ below (mQ D n0 (some (.int r)) S M' n) args s 0 0 (mA n0)) (F0 m 131 ls [])) : ∀ (M : mMm) (x0 : Nat) (x1 : Int32) (x2 : Int32) (H : Heap) (locs : List Loc) (ls : Array Slot), mHp D n0 S M n s H locs → lv_has ls 4 [(0, .ref x0), (1, .int x1), (2, .int x2)] → fb_X5_text_199 S k131 M x0 x1 x2 = some (r, M') → W p l e Rm_X5_text s m args below meth c H locs 0 0 (MQ below (mQ D n0 (some (.int r)) S M' n) args s 0 0 (mA n0)) (F0 m 199 ls []) := by
  have hx := X.1.1
  have hb := X.1.2.1
  have hown := X.1.2.2.2.1
  have hts := X.1.2.2.2.2
  intro M x0 x1 x2 H locs ls hp hl hF
  unfold fb_X5_text_199 at hF
  refine lv_aload_n hx hb dX5_text_199 rfl (lv_at hl 0 rfl) ?_
  refine lv_bipush (v := 59) hx hb dX5_text_200 (by decide) ?_
  obtain ⟨g81, hF⟩ := gd_s hF
  obtain ⟨M84, e82, hF⟩ := ob_s hF
  refine m_callV (As := [.int (59 : Int32)]) (rest := []) X hp (w_X5_sign e82) q1673 q1675 qs79 q144 q1676 1 rfl ds_X5_sign ⟨Nat.le_of_ble_eq_true rfl, Nat.le_of_ble_eq_true rfl⟩ 6 (T := TX5) (N := 40) rfl (by decide) g81 hl.1 rfl (Nat.le_of_ble_eq_true rfl) dX5_text_202 ⟨Nat.le_refl 0, Nat.le_refl 0⟩ (fun H locs hp => ?_)
  obtain ⟨v85, ev86⟩ : ∃ y : Int32, y = x2 + (1 : Int32) := ⟨_, rfl⟩
  have hF := nm_s hF ev86
  refine lv_iinc (v := v85) (lv' := [(2, .int v85), (0, .ref x0), (1, .int x1)]) hx hb dX5_text_205 hl (k := 2) rfl (by rw [ev86]; rfl) (by decide) rfl (fun ls hl => ?_)
  refine lv_goto (tgt := 131) hx hb dX5_text_208 (by decide) ?_
  exact hk131 _ _ _ _ _ _ _ hp (lv_sub hl [1, 2, 0] rfl) hF
def fb_X5_text_306 (S : mSh) (M : mMm) (x0 : Nat) (x1 : Int32) (x2 : Int32) : Option (Int32 × mMm) := (if x1 ≤ 0 then some (x2, M) else ob (wF S M x0 6 4 (.int (0 : Int32))) fun M125 => some (x2, M125))
theorem b_X5_text_306 {r : Int32} {M' : mMm} (X : mCx D n0 P p m c cX5_text 4 s args yX5_text.cls meth (some .int)) : ∀ (M : mMm) (x0 : Nat) (x1 : Int32) (x2 : Int32) (H : Heap) (locs : List Loc) (ls : Array Slot), mHp D n0 S M n s H locs → lv_has ls 4 [(0, .ref x0), (1, .int x1), (2, .int x2)] → fb_X5_text_306 S M x0 x1 x2 = some (r, M') → W p l e Rm_X5_text s m args below meth c H locs 0 0 (MQ below (mQ D n0 (some (.int r)) S M' n) args s 0 0 (mA n0)) (F0 m 306 ls []) := by
  have hx := X.1.1
  have hb := X.1.2.1
  have hown := X.1.2.2.2.1
  have hts := X.1.2.2.2.2
  intro M x0 x1 x2 H locs ls hp hl hF
  unfold fb_X5_text_306 at hF
  refine lv_iload_n hx hb dX5_text_306 rfl (lv_at hl 1 rfl) ?_
  refine lv_if_le (tgt := 315) hx hb dX5_text_307 (by decide) (fun c124 => ?_) (fun c124 => ?_)
  · have hF := if_p c124 hF
    refine lv_iload_n hx hb dX5_text_315 rfl (lv_at hl 2 rfl) ?_
    cases hF
    exact m_iret X hp dX5_text_316
  · have hF := if_n c124 hF
    refine lv_aload_n hx hb dX5_text_310 rfl (lv_at hl 0 rfl) ?_
    refine lv_iconst (v := 0) hx hb dX5_text_311 (by decide) ?_
    obtain ⟨M125, e126, hF⟩ := ob_s hF
    refine m_putW X hp e126 kX5 (Nat.le_of_ble_eq_true rfl) q1463 rfl rfl rfl dX5_text_312 (fun H locs hp => ?_)
    refine lv_iload_n hx hb dX5_text_315 rfl (lv_at hl 2 rfl) ?_
    cases hF
    exact m_iret X hp dX5_text_316
def fb_X5_text_272 (S : mSh) : Nat → mMm → Nat → Int32 → Int32 → Int32 → Option (Int32 × mMm)
  | 0, _, _, _, _, _ => none
  | t + 1, M, x0, x1, x2, x3 => (if (16 : Int32) ≤ x3 then (fb_X5_text_306 S M x0 x1 x2) else (if x1 = (2 : Int32) then ob (rR S M x0 6 0) fun v118 => ob (wA S M v118 100 (((144 : Int32) + ((12 : Int32) * x3)) + (8 : Int32)) (.int (0 : Int32))) fun M120 => nm (x3 + (1 : Int32)) fun v122 => (fb_X5_text_272 S t M120 x0 x1 x2 v122) else (fb_X5_text_306 S M x0 x1 x2)))
theorem b_X5_text_272 {r : Int32} {M' : mMm} (X : mCx D n0 P p m c cX5_text 4 s args yX5_text.cls meth (some .int)) : ∀ t : Nat, ∀ (M : mMm) (x0 : Nat) (x1 : Int32) (x2 : Int32) (x3 : Int32) (H : Heap) (locs : List Loc) (ls : Array Slot), mHp D n0 S M n s H locs → lv_has ls 4 [(0, .ref x0), (1, .int x1), (2, .int x2), (3, .int x3)] → fb_X5_text_272 S t M x0 x1 x2 x3 = some (r, M') → W p l e Rm_X5_text s m args below meth c H locs 0 0 (MQ below (mQ D n0 (some (.int r)) S M' n) args s 0 0 (mA n0)) (F0 m 272 ls []) := by
  have hx := X.1.1
  have hb := X.1.2.1
  have hown := X.1.2.2.2.1
  have hts := X.1.2.2.2.2
  intro t
  induction t with
  | zero =>
    intro M x0 x1 x2 x3 H locs ls hp hl hF
    have hF : none = some (r, M') := hF
    cases hF
  | succ t ih =>
    intro M x0 x1 x2 x3 H locs ls hp hl hF
    rw [fb_X5_text_272] at hF
    refine lv_iload_n hx hb dX5_text_272 rfl (lv_at hl 3 rfl) ?_
    refine lv_bipush (v := 16) hx hb dX5_text_273 (by decide) ?_
    refine lv_icmp_ge (tgt := 306) hx hb dX5_text_275 (by decide) (fun c116 => ?_) (fun c116 => ?_)
    · have hF := if_p c116 hF
      exact b_X5_text_306 X _ _ _ _ _ _ _ hp (lv_sub hl [0, 1, 2] rfl) hF
    · have hF := if_n c116 hF
      refine lv_iload_n hx hb dX5_text_278 rfl (lv_at hl 1 rfl) ?_
      refine lv_iconst (v := 2) hx hb dX5_text_279 (by decide) ?_
      refine lv_icmp_ne (tgt := 306) hx hb dX5_text_280 (by decide) (fun c117 => ?_) (fun c117 => ?_)
      · have hF := if_n c117 hF
        exact b_X5_text_306 X _ _ _ _ _ _ _ hp (lv_sub hl [0, 1, 2] rfl) hF
      · have hF := if_p c117 hF
        refine lv_aload_n hx hb dX5_text_283 rfl (lv_at hl 0 rfl) ?_
        obtain ⟨v118, e119, hF⟩ := ob_s hF
        refine m_getR X hp e119 kX5 (Nat.le_of_ble_eq_true rfl) q1459 dX5_text_284 ?_
        refine lv_sipush (v := 144) hx hb dX5_text_287 (by decide) ?_
        refine lv_bipush (v := 12) hx hb dX5_text_290 (by decide) ?_
        refine lv_iload_n hx hb dX5_text_292 rfl (lv_at hl 3 rfl) ?_
        refine lv_imul hx hb dX5_text_293 ?_
        refine lv_iadd hx hb dX5_text_294 ?_
        refine lv_bipush (v := 8) hx hb dX5_text_295 (by decide) ?_
        refine lv_iadd hx hb dX5_text_297 ?_
        refine lv_iconst (v := 0) hx hb dX5_text_298 (by decide) ?_
        obtain ⟨M120, e121, hF⟩ := ob_s hF
        refine m_iaW X hp e121 dX5_text_299 (fun H locs hp => ?_)
        obtain ⟨v122, ev123⟩ : ∃ y : Int32, y = x3 + (1 : Int32) := ⟨_, rfl⟩
        have hF := nm_s hF ev123
        refine lv_iinc (v := v122) (lv' := [(3, .int v122), (0, .ref x0), (1, .int x1), (2, .int x2)]) hx hb dX5_text_300 hl (k := 3) rfl (by rw [ev123]; rfl) (by decide) rfl (fun ls hl => ?_)
        refine lv_goto (tgt := 272) hx hb dX5_text_303 (by decide) ?_
        exact ih _ _ _ _ _ _ _ _ hp (lv_sub hl [1, 2, 3, 0] rfl) hF
def fb_X5_text_270 (S : mSh) (M : mMm) (x0 : Nat) (x1 : Int32) (x2 : Int32) : Option (Int32 × mMm) := nm ((0 : Int32)) fun v114 => (fb_X5_text_272 S FU M x0 x1 x2 v114)
theorem b_X5_text_270 {r : Int32} {M' : mMm} (X : mCx D n0 P p m c cX5_text 4 s args yX5_text.cls meth (some .int)) : ∀ (M : mMm) (x0 : Nat) (x1 : Int32) (x2 : Int32) (H : Heap) (locs : List Loc) (ls : Array Slot), mHp D n0 S M n s H locs → lv_has ls 4 [(0, .ref x0), (1, .int x1), (2, .int x2)] → fb_X5_text_270 S M x0 x1 x2 = some (r, M') → W p l e Rm_X5_text s m args below meth c H locs 0 0 (MQ below (mQ D n0 (some (.int r)) S M' n) args s 0 0 (mA n0)) (F0 m 270 ls []) := by
  have hx := X.1.1
  have hb := X.1.2.1
  have hown := X.1.2.2.2.1
  have hts := X.1.2.2.2.2
  intro M x0 x1 x2 H locs ls hp hl hF
  unfold fb_X5_text_270 at hF
  refine lv_iconst (v := 0) hx hb dX5_text_270 (by decide) ?_
  refine lv_topi (fun v114 ev115 => ?_)
  have hF := nm_s hF ev115
  refine lv_istore_n (lv' := [(3, .int v114), (0, .ref x0), (1, .int x1), (2, .int x2)]) hx hb dX5_text_271 rfl hl (by decide) rfl (fun ls hl => ?_)
  exact b_X5_text_272 X _ _ _ _ _ _ _ _ _ hp (lv_sub hl [1, 2, 3, 0] rfl) hF
def fb_X5_text_211 (S : mSh) (M : mMm) (x0 : Nat) (x1 : Int32) (x2 : Int32) : Option (Int32 × mMm) := gd ((S x0).1 = 6) (ob (f_X5_fine S M x0) fun v89 => (if v89 = 0 then ob (rI S M x0 6 11) fun v106 => ob (wF S M x0 6 13 (.int v106)) fun M108 => ob (rI S M108 x0 6 10) fun v110 => ob (wF S M108 x0 6 14 (.int v110)) fun M112 => some ((-1 : Int32), M112) else ob (rR S M x0 6 16) fun v91 => ob (wA S M v91 100 ((941 : Int32) + x1) (.int x2)) fun M93 => ob (rR S M93 x0 6 16) fun v95 => ob (rR S M93 x0 6 0) fun v97 => ob (f_X5_copies S M93 v95 v97 (2425 : Int32)) fun M101 => (if x1 = (1 : Int32) then ob (f_X5_drivesOut S M101 x0) fun M105 => (fb_X5_text_270 S M105 x0 x1 x2) else (fb_X5_text_270 S M101 x0 x1 x2))))
theorem b_X5_text_211 {r : Int32} {M' : mMm} (X : mCx D n0 P p m c cX5_text 4 s args yX5_text.cls meth (some .int)) : ∀ (M : mMm) (x0 : Nat) (x1 : Int32) (x2 : Int32) (H : Heap) (locs : List Loc) (ls : Array Slot), mHp D n0 S M n s H locs → lv_has ls 4 [(0, .ref x0), (1, .int x1), (2, .int x2)] → fb_X5_text_211 S M x0 x1 x2 = some (r, M') → W p l e Rm_X5_text s m args below meth c H locs 0 0 (MQ below (mQ D n0 (some (.int r)) S M' n) args s 0 0 (mA n0)) (F0 m 211 ls []) := by
  have hx := X.1.1
  have hb := X.1.2.1
  have hown := X.1.2.2.2.1
  have hts := X.1.2.2.2.2
  intro M x0 x1 x2 H locs ls hp hl hF
  unfold fb_X5_text_211 at hF
  refine lv_aload_n hx hb dX5_text_211 rfl (lv_at hl 0 rfl) ?_
  obtain ⟨g87, hF⟩ := gd_s hF
  obtain ⟨v89, e88, hF⟩ := ob_s hF
  refine m_callV (As := []) (rest := []) X hp (w_X5_fine e88) q1598 q1600 qs64 q144 q1601 0 rfl ds_X5_fine ⟨Nat.le_of_ble_eq_true rfl, Nat.le_of_ble_eq_true rfl⟩ 6 (T := TX5) (N := 40) rfl (by decide) g87 hl.1 rfl (Nat.le_of_ble_eq_true rfl) dX5_text_212 ⟨Nat.le_refl 0, Nat.le_refl 0⟩ (fun H locs hp => ?_)
  refine lv_if_ne (tgt := 236) hx hb dX5_text_215 (by decide) (fun c90 => ?_) (fun c90 => ?_)
  · have hF := if_n c90 hF
    refine lv_aload_n hx hb dX5_text_236 rfl (lv_at hl 0 rfl) ?_
    obtain ⟨v91, e92, hF⟩ := ob_s hF
    refine m_getR X hp e92 kX5 (Nat.le_of_ble_eq_true rfl) q1475 dX5_text_237 ?_
    refine lv_sipush (v := 941) hx hb dX5_text_240 (by decide) ?_
    refine lv_iload_n hx hb dX5_text_243 rfl (lv_at hl 1 rfl) ?_
    refine lv_iadd hx hb dX5_text_244 ?_
    refine lv_iload_n hx hb dX5_text_245 rfl (lv_at hl 2 rfl) ?_
    obtain ⟨M93, e94, hF⟩ := ob_s hF
    refine m_iaW X hp e94 dX5_text_246 (fun H locs hp => ?_)
    refine lv_aload_n hx hb dX5_text_247 rfl (lv_at hl 0 rfl) ?_
    obtain ⟨v95, e96, hF⟩ := ob_s hF
    refine m_getR X hp e96 kX5 (Nat.le_of_ble_eq_true rfl) q1475 dX5_text_248 ?_
    refine lv_aload_n hx hb dX5_text_251 rfl (lv_at hl 0 rfl) ?_
    obtain ⟨v97, e98, hF⟩ := ob_s hF
    refine m_getR X hp e98 kX5 (Nat.le_of_ble_eq_true rfl) q1459 dX5_text_252 ?_
    refine lv_sipush (v := 2425) hx hb dX5_text_255 (by decide) ?_
    obtain ⟨M101, e99, hF⟩ := ob_s hF
    refine m_callS (As := [.ref v95, .ref v97, .int (2425 : Int32)]) (rest := []) X hp (w_X5_copies e99) q1595 q1596 q144 q1597 3 rfl ds_X5_copies ⟨Nat.le_of_ble_eq_true rfl, Nat.le_of_ble_eq_true rfl⟩ hl.1 rfl (Nat.le_of_ble_eq_true rfl) dX5_text_258 ⟨Nat.le_refl 0, Nat.le_refl 0⟩ (fun H locs hp => ?_)
    refine lv_iload_n hx hb dX5_text_261 rfl (lv_at hl 1 rfl) ?_
    refine lv_iconst (v := 1) hx hb dX5_text_262 (by decide) ?_
    refine lv_icmp_ne (tgt := 270) hx hb dX5_text_263 (by decide) (fun c102 => ?_) (fun c102 => ?_)
    · have hF := if_n c102 hF
      exact b_X5_text_270 X _ _ _ _ _ _ _ hp (lv_sub hl [0, 1, 2] rfl) hF
    · have hF := if_p c102 hF
      refine lv_aload_n hx hb dX5_text_266 rfl (lv_at hl 0 rfl) ?_
      obtain ⟨M105, e103, hF⟩ := ob_s hF
      refine m_callV (As := []) (rest := []) X hp (w_X5_drivesOut e103) q1704 q1706 qs86 q144 q1707 0 rfl ds_X5_drivesOut ⟨Nat.le_of_ble_eq_true rfl, Nat.le_of_ble_eq_true rfl⟩ 6 (T := TX5) (N := 40) rfl (by decide) (rR_s e98).1 hl.1 rfl (Nat.le_of_ble_eq_true rfl) dX5_text_267 ⟨Nat.le_refl 0, Nat.le_refl 0⟩ (fun H locs hp => ?_)
      exact b_X5_text_270 X _ _ _ _ _ _ _ hp (lv_sub hl [0, 1, 2] rfl) hF
  · have hF := if_p c90 hF
    refine lv_aload_n hx hb dX5_text_218 rfl (lv_at hl 0 rfl) ?_
    refine lv_aload_n hx hb dX5_text_219 rfl (lv_at hl 0 rfl) ?_
    obtain ⟨v106, e107, hF⟩ := ob_s hF
    refine m_getI X hp e107 kX5 (Nat.le_of_ble_eq_true rfl) q1470 dX5_text_220 ?_
    obtain ⟨M108, e109, hF⟩ := ob_s hF
    refine m_putW X hp e109 kX5 (Nat.le_of_ble_eq_true rfl) q1472 rfl rfl rfl dX5_text_223 (fun H locs hp => ?_)
    refine lv_aload_n hx hb dX5_text_226 rfl (lv_at hl 0 rfl) ?_
    refine lv_aload_n hx hb dX5_text_227 rfl (lv_at hl 0 rfl) ?_
    obtain ⟨v110, e111, hF⟩ := ob_s hF
    refine m_getI X hp e111 kX5 (Nat.le_of_ble_eq_true rfl) q1469 dX5_text_228 ?_
    obtain ⟨M112, e113, hF⟩ := ob_s hF
    refine m_putW X hp e113 kX5 (Nat.le_of_ble_eq_true rfl) q1473 rfl rfl rfl dX5_text_231 (fun H locs hp => ?_)
    refine lv_iconst (v := -1) hx hb dX5_text_234 (by decide) ?_
    cases hF
    exact m_iret X hp dX5_text_235
def fb_X5_text_131 (S : mSh) : Nat → mMm → Nat → Int32 → Int32 → Option (Int32 × mMm)
  | 0, _, _, _, _ => none
  | t + 1, M, x0, x1, x2 => gd ((S x0).1 = 6) (ob (f_X5_fine S M x0) fun v55 => (if v55 = 0 then (fb_X5_text_211 S M x0 x1 x2) else ob (f_X5_here S M x0) fun ⟨v58, M59⟩ => (if v58 < 0 then (fb_X5_text_211 S M59 x0 x1 x2) else ob (rI S M59 x0 6 9) fun v61 => ob (rI S M59 x0 6 8) fun v63 => (if v63 ≤ v61 then (fb_X5_text_211 S M59 x0 x1 x2) else (if x1 = 0 then ob (f_X5_readRule S M59 x0 x2) fun M80 => (fb_X5_text_199 S (fb_X5_text_131 S t) M80 x0 x1 x2) else (if x1 = (1 : Int32) then ob (f_X5_readStones S M59 x0 x2) fun M77 => (fb_X5_text_199 S (fb_X5_text_131 S t) M77 x0 x1 x2) else (if x1 = (2 : Int32) then ob (f_X5_readWay S M59 x0 x2) fun M74 => (fb_X5_text_199 S (fb_X5_text_131 S t) M74 x0 x1 x2) else ob (f_X5_readHour S M59 x0 x2) fun M71 => (fb_X5_text_199 S (fb_X5_text_131 S t) M71 x0 x1 x2))))))))
theorem b_X5_text_131 {r : Int32} {M' : mMm} (X : mCx D n0 P p m c cX5_text 4 s args yX5_text.cls meth (some .int)) : ∀ t : Nat, ∀ (M : mMm) (x0 : Nat) (x1 : Int32) (x2 : Int32) (H : Heap) (locs : List Loc) (ls : Array Slot), mHp D n0 S M n s H locs → lv_has ls 4 [(0, .ref x0), (1, .int x1), (2, .int x2)] → fb_X5_text_131 S t M x0 x1 x2 = some (r, M') → W p l e Rm_X5_text s m args below meth c H locs 0 0 (MQ below (mQ D n0 (some (.int r)) S M' n) args s 0 0 (mA n0)) (F0 m 131 ls []) := by
  have hx := X.1.1
  have hb := X.1.2.1
  have hown := X.1.2.2.2.1
  have hts := X.1.2.2.2.2
  intro t
  induction t with
  | zero =>
    intro M x0 x1 x2 H locs ls hp hl hF
    have hF : none = some (r, M') := hF
    cases hF
  | succ t ih =>
    intro M x0 x1 x2 H locs ls hp hl hF
    rw [fb_X5_text_131] at hF
    refine lv_aload_n hx hb dX5_text_131 rfl (lv_at hl 0 rfl) ?_
    obtain ⟨g53, hF⟩ := gd_s hF
    obtain ⟨v55, e54, hF⟩ := ob_s hF
    refine m_callV (As := []) (rest := []) X hp (w_X5_fine e54) q1598 q1600 qs64 q144 q1601 0 rfl ds_X5_fine ⟨Nat.le_of_ble_eq_true rfl, Nat.le_of_ble_eq_true rfl⟩ 6 (T := TX5) (N := 40) rfl (by decide) g53 hl.1 rfl (Nat.le_of_ble_eq_true rfl) dX5_text_132 ⟨Nat.le_refl 0, Nat.le_refl 0⟩ (fun H locs hp => ?_)
    refine lv_if_eq (tgt := 211) hx hb dX5_text_135 (by decide) (fun c56 => ?_) (fun c56 => ?_)
    · have hF := if_p c56 hF
      exact b_X5_text_211 X _ _ _ _ _ _ _ hp (lv_sub hl [0, 1, 2] rfl) hF
    · have hF := if_n c56 hF
      refine lv_aload_n hx hb dX5_text_138 rfl (lv_at hl 0 rfl) ?_
      obtain ⟨⟨v58, M59⟩, e57, hF⟩ := ob_s hF
      refine m_callV (As := []) (rest := []) X hp (w_X5_here e57) q1602 q1604 qs65 q144 q1605 0 rfl ds_X5_here ⟨Nat.le_of_ble_eq_true rfl, Nat.le_of_ble_eq_true rfl⟩ 6 (T := TX5) (N := 40) rfl (by decide) g53 hl.1 rfl (Nat.le_of_ble_eq_true rfl) dX5_text_139 ⟨Nat.le_refl 0, Nat.le_refl 0⟩ (fun H locs hp => ?_)
      refine lv_if_lt (tgt := 211) hx hb dX5_text_142 (by decide) (fun c60 => ?_) (fun c60 => ?_)
      · have hF := if_p c60 hF
        exact b_X5_text_211 X _ _ _ _ _ _ _ hp (lv_sub hl [0, 1, 2] rfl) hF
      · have hF := if_n c60 hF
        refine lv_aload_n hx hb dX5_text_145 rfl (lv_at hl 0 rfl) ?_
        obtain ⟨v61, e62, hF⟩ := ob_s hF
        refine m_getI X hp e62 kX5 (Nat.le_of_ble_eq_true rfl) q1468 dX5_text_146 ?_
        refine lv_aload_n hx hb dX5_text_149 rfl (lv_at hl 0 rfl) ?_
        obtain ⟨v63, e64, hF⟩ := ob_s hF
        refine m_getI X hp e64 kX5 (Nat.le_of_ble_eq_true rfl) q1467 dX5_text_150 ?_
        refine lv_icmp_ge (tgt := 211) hx hb dX5_text_153 (by decide) (fun c65 => ?_) (fun c65 => ?_)
        · have hF := if_p c65 hF
          exact b_X5_text_211 X _ _ _ _ _ _ _ hp (lv_sub hl [0, 1, 2] rfl) hF
        · have hF := if_n c65 hF
          refine lv_iload_n hx hb dX5_text_156 rfl (lv_at hl 1 rfl) ?_
          refine lv_if_ne (tgt := 168) hx hb dX5_text_157 (by decide) (fun c66 => ?_) (fun c66 => ?_)
          · have hF := if_n c66 hF
            refine lv_iload_n hx hb dX5_text_168 rfl (lv_at hl 1 rfl) ?_
            refine lv_iconst (v := 1) hx hb dX5_text_169 (by decide) ?_
            refine lv_icmp_ne (tgt := 181) hx hb dX5_text_170 (by decide) (fun c67 => ?_) (fun c67 => ?_)
            · have hF := if_n c67 hF
              refine lv_iload_n hx hb dX5_text_181 rfl (lv_at hl 1 rfl) ?_
              refine lv_iconst (v := 2) hx hb dX5_text_182 (by decide) ?_
              refine lv_icmp_ne (tgt := 194) hx hb dX5_text_183 (by decide) (fun c68 => ?_) (fun c68 => ?_)
              · have hF := if_n c68 hF
                refine lv_aload_n hx hb dX5_text_194 rfl (lv_at hl 0 rfl) ?_
                refine lv_iload_n hx hb dX5_text_195 rfl (lv_at hl 2 rfl) ?_
                obtain ⟨M71, e69, hF⟩ := ob_s hF
                refine m_callV (As := [.int x2]) (rest := []) X hp (w_X5_readHour e69) q1700 q1702 qs85 q144 q1703 1 rfl ds_X5_readHour ⟨Nat.le_of_ble_eq_true rfl, Nat.le_of_ble_eq_true rfl⟩ 6 (T := TX5) (N := 40) rfl (by decide) (rI_s e64).1 hl.1 rfl (Nat.le_of_ble_eq_true rfl) dX5_text_196 ⟨Nat.le_refl 0, Nat.le_refl 0⟩ (fun H locs hp => ?_)
                exact b_X5_text_199 X _ ih _ _ _ _ _ _ _ hp (lv_sub hl [0, 1, 2] rfl) hF
              · have hF := if_p c68 hF
                refine lv_aload_n hx hb dX5_text_186 rfl (lv_at hl 0 rfl) ?_
                refine lv_iload_n hx hb dX5_text_187 rfl (lv_at hl 2 rfl) ?_
                obtain ⟨M74, e72, hF⟩ := ob_s hF
                refine m_callV (As := [.int x2]) (rest := []) X hp (w_X5_readWay e72) q1693 q1695 qs84 q144 q1696 1 rfl ds_X5_readWay ⟨Nat.le_of_ble_eq_true rfl, Nat.le_of_ble_eq_true rfl⟩ 6 (T := TX5) (N := 40) rfl (by decide) (rI_s e64).1 hl.1 rfl (Nat.le_of_ble_eq_true rfl) dX5_text_188 ⟨Nat.le_refl 0, Nat.le_refl 0⟩ (fun H locs hp => ?_)
                refine lv_goto (tgt := 199) hx hb dX5_text_191 (by decide) ?_
                exact b_X5_text_199 X _ ih _ _ _ _ _ _ _ hp (lv_sub hl [0, 1, 2] rfl) hF
            · have hF := if_p c67 hF
              refine lv_aload_n hx hb dX5_text_173 rfl (lv_at hl 0 rfl) ?_
              refine lv_iload_n hx hb dX5_text_174 rfl (lv_at hl 2 rfl) ?_
              obtain ⟨M77, e75, hF⟩ := ob_s hF
              refine m_callV (As := [.int x2]) (rest := []) X hp (w_X5_readStones e75) q1689 q1691 qs83 q144 q1692 1 rfl ds_X5_readStones ⟨Nat.le_of_ble_eq_true rfl, Nat.le_of_ble_eq_true rfl⟩ 6 (T := TX5) (N := 40) rfl (by decide) (rI_s e64).1 hl.1 rfl (Nat.le_of_ble_eq_true rfl) dX5_text_175 ⟨Nat.le_refl 0, Nat.le_refl 0⟩ (fun H locs hp => ?_)
              refine lv_goto (tgt := 199) hx hb dX5_text_178 (by decide) ?_
              exact b_X5_text_199 X _ ih _ _ _ _ _ _ _ hp (lv_sub hl [0, 1, 2] rfl) hF
          · have hF := if_p c66 hF
            refine lv_aload_n hx hb dX5_text_160 rfl (lv_at hl 0 rfl) ?_
            refine lv_iload_n hx hb dX5_text_161 rfl (lv_at hl 2 rfl) ?_
            obtain ⟨M80, e78, hF⟩ := ob_s hF
            refine m_callV (As := [.int x2]) (rest := []) X hp (w_X5_readRule e78) q1606 q1608 qs66 q144 q1609 1 rfl ds_X5_readRule ⟨Nat.le_of_ble_eq_true rfl, Nat.le_of_ble_eq_true rfl⟩ 6 (T := TX5) (N := 40) rfl (by decide) (rI_s e64).1 hl.1 rfl (Nat.le_of_ble_eq_true rfl) dX5_text_162 ⟨Nat.le_refl 0, Nat.le_refl 0⟩ (fun H locs hp => ?_)
            refine lv_goto (tgt := 199) hx hb dX5_text_165 (by decide) ?_
            exact b_X5_text_199 X _ ih _ _ _ _ _ _ _ hp (lv_sub hl [0, 1, 2] rfl) hF
def fb_X5_text_111 (S : mSh) : Nat → mMm → Nat → Int32 → Int32 → Int32 → Option (Int32 × mMm)
  | 0, _, _, _, _, _ => none
  | t + 1, M, x0, x1, x2, x3 => (if (2325 : Int32) ≤ x3 then (fb_X5_text_131 S FU M x0 x1 x2) else ob (rR S M x0 6 16) fun v47 => ob (wA S M v47 100 x3 (.int (0 : Int32))) fun M49 => nm (x3 + (1 : Int32)) fun v51 => (fb_X5_text_111 S t M49 x0 x1 x2 v51))
theorem b_X5_text_111 {r : Int32} {M' : mMm} (X : mCx D n0 P p m c cX5_text 4 s args yX5_text.cls meth (some .int)) : ∀ t : Nat, ∀ (M : mMm) (x0 : Nat) (x1 : Int32) (x2 : Int32) (x3 : Int32) (H : Heap) (locs : List Loc) (ls : Array Slot), mHp D n0 S M n s H locs → lv_has ls 4 [(0, .ref x0), (1, .int x1), (2, .int x2), (3, .int x3)] → fb_X5_text_111 S t M x0 x1 x2 x3 = some (r, M') → W p l e Rm_X5_text s m args below meth c H locs 0 0 (MQ below (mQ D n0 (some (.int r)) S M' n) args s 0 0 (mA n0)) (F0 m 111 ls []) := by
  have hx := X.1.1
  have hb := X.1.2.1
  have hown := X.1.2.2.2.1
  have hts := X.1.2.2.2.2
  intro t
  induction t with
  | zero =>
    intro M x0 x1 x2 x3 H locs ls hp hl hF
    have hF : none = some (r, M') := hF
    cases hF
  | succ t ih =>
    intro M x0 x1 x2 x3 H locs ls hp hl hF
    rw [fb_X5_text_111] at hF
    refine lv_iload_n hx hb dX5_text_111 rfl (lv_at hl 3 rfl) ?_
    refine lv_sipush (v := 2325) hx hb dX5_text_112 (by decide) ?_
    refine lv_icmp_ge (tgt := 131) hx hb dX5_text_115 (by decide) (fun c46 => ?_) (fun c46 => ?_)
    · have hF := if_p c46 hF
      exact b_X5_text_131 X _ _ _ _ _ _ _ _ hp (lv_sub hl [0, 1, 2] rfl) hF
    · have hF := if_n c46 hF
      refine lv_aload_n hx hb dX5_text_118 rfl (lv_at hl 0 rfl) ?_
      obtain ⟨v47, e48, hF⟩ := ob_s hF
      refine m_getR X hp e48 kX5 (Nat.le_of_ble_eq_true rfl) q1475 dX5_text_119 ?_
      refine lv_iload_n hx hb dX5_text_122 rfl (lv_at hl 3 rfl) ?_
      refine lv_iconst (v := 0) hx hb dX5_text_123 (by decide) ?_
      obtain ⟨M49, e50, hF⟩ := ob_s hF
      refine m_iaW X hp e50 dX5_text_124 (fun H locs hp => ?_)
      obtain ⟨v51, ev52⟩ : ∃ y : Int32, y = x3 + (1 : Int32) := ⟨_, rfl⟩
      have hF := nm_s hF ev52
      refine lv_iinc (v := v51) (lv' := [(3, .int v51), (0, .ref x0), (1, .int x1), (2, .int x2)]) hx hb dX5_text_125 hl (k := 3) rfl (by rw [ev52]; rfl) (by decide) rfl (fun ls hl => ?_)
      refine lv_goto (tgt := 111) hx hb dX5_text_128 (by decide) ?_
      exact ih _ _ _ _ _ _ _ _ hp (lv_sub hl [1, 2, 3, 0] rfl) hF
def fb_X5_text_102 (S : mSh) (M : mMm) (x0 : Nat) (x1 : Int32) (x2 : Int32) : Option (Int32 × mMm) := (if x1 = (2 : Int32) then nm ((1925 : Int32)) fun v44 => (fb_X5_text_111 S FU M x0 x1 x2 v44) else (fb_X5_text_131 S FU M x0 x1 x2))
theorem b_X5_text_102 {r : Int32} {M' : mMm} (X : mCx D n0 P p m c cX5_text 4 s args yX5_text.cls meth (some .int)) : ∀ (M : mMm) (x0 : Nat) (x1 : Int32) (x2 : Int32) (H : Heap) (locs : List Loc) (ls : Array Slot), mHp D n0 S M n s H locs → lv_has ls 4 [(0, .ref x0), (1, .int x1), (2, .int x2)] → fb_X5_text_102 S M x0 x1 x2 = some (r, M') → W p l e Rm_X5_text s m args below meth c H locs 0 0 (MQ below (mQ D n0 (some (.int r)) S M' n) args s 0 0 (mA n0)) (F0 m 102 ls []) := by
  have hx := X.1.1
  have hb := X.1.2.1
  have hown := X.1.2.2.2.1
  have hts := X.1.2.2.2.2
  intro M x0 x1 x2 H locs ls hp hl hF
  unfold fb_X5_text_102 at hF
  refine lv_iload_n hx hb dX5_text_102 rfl (lv_at hl 1 rfl) ?_
  refine lv_iconst (v := 2) hx hb dX5_text_103 (by decide) ?_
  refine lv_icmp_ne (tgt := 131) hx hb dX5_text_104 (by decide) (fun c43 => ?_) (fun c43 => ?_)
  · have hF := if_n c43 hF
    exact b_X5_text_131 X _ _ _ _ _ _ _ _ hp (lv_sub hl [0, 1, 2] rfl) hF
  · have hF := if_p c43 hF
    refine lv_sipush (v := 1925) hx hb dX5_text_107 (by decide) ?_
    refine lv_topi (fun v44 ev45 => ?_)
    have hF := nm_s hF ev45
    refine lv_istore_n (lv' := [(3, .int v44), (0, .ref x0), (1, .int x1), (2, .int x2)]) hx hb dX5_text_110 rfl hl (by decide) rfl (fun ls hl => ?_)
    exact b_X5_text_111 X _ _ _ _ _ _ _ _ _ hp (lv_sub hl [1, 2, 3, 0] rfl) hF
def fb_X5_text_82 (S : mSh) : Nat → mMm → Nat → Int32 → Int32 → Int32 → Option (Int32 × mMm)
  | 0, _, _, _, _, _ => none
  | t + 1, M, x0, x1, x2, x3 => (if (144 : Int32) ≤ x3 then (fb_X5_text_102 S M x0 x1 x2) else ob (rR S M x0 6 16) fun v37 => ob (wA S M v37 100 x3 (.int (0 : Int32))) fun M39 => nm (x3 + (1 : Int32)) fun v41 => (fb_X5_text_82 S t M39 x0 x1 x2 v41))
theorem b_X5_text_82 {r : Int32} {M' : mMm} (X : mCx D n0 P p m c cX5_text 4 s args yX5_text.cls meth (some .int)) : ∀ t : Nat, ∀ (M : mMm) (x0 : Nat) (x1 : Int32) (x2 : Int32) (x3 : Int32) (H : Heap) (locs : List Loc) (ls : Array Slot), mHp D n0 S M n s H locs → lv_has ls 4 [(0, .ref x0), (1, .int x1), (2, .int x2), (3, .int x3)] → fb_X5_text_82 S t M x0 x1 x2 x3 = some (r, M') → W p l e Rm_X5_text s m args below meth c H locs 0 0 (MQ below (mQ D n0 (some (.int r)) S M' n) args s 0 0 (mA n0)) (F0 m 82 ls []) := by
  have hx := X.1.1
  have hb := X.1.2.1
  have hown := X.1.2.2.2.1
  have hts := X.1.2.2.2.2
  intro t
  induction t with
  | zero =>
    intro M x0 x1 x2 x3 H locs ls hp hl hF
    have hF : none = some (r, M') := hF
    cases hF
  | succ t ih =>
    intro M x0 x1 x2 x3 H locs ls hp hl hF
    rw [fb_X5_text_82] at hF
    refine lv_iload_n hx hb dX5_text_82 rfl (lv_at hl 3 rfl) ?_
    refine lv_sipush (v := 144) hx hb dX5_text_83 (by decide) ?_
    refine lv_icmp_ge (tgt := 102) hx hb dX5_text_86 (by decide) (fun c36 => ?_) (fun c36 => ?_)
    · have hF := if_p c36 hF
      exact b_X5_text_102 X _ _ _ _ _ _ _ hp (lv_sub hl [0, 1, 2] rfl) hF
    · have hF := if_n c36 hF
      refine lv_aload_n hx hb dX5_text_89 rfl (lv_at hl 0 rfl) ?_
      obtain ⟨v37, e38, hF⟩ := ob_s hF
      refine m_getR X hp e38 kX5 (Nat.le_of_ble_eq_true rfl) q1475 dX5_text_90 ?_
      refine lv_iload_n hx hb dX5_text_93 rfl (lv_at hl 3 rfl) ?_
      refine lv_iconst (v := 0) hx hb dX5_text_94 (by decide) ?_
      obtain ⟨M39, e40, hF⟩ := ob_s hF
      refine m_iaW X hp e40 dX5_text_95 (fun H locs hp => ?_)
      obtain ⟨v41, ev42⟩ : ∃ y : Int32, y = x3 + (1 : Int32) := ⟨_, rfl⟩
      have hF := nm_s hF ev42
      refine lv_iinc (v := v41) (lv' := [(3, .int v41), (0, .ref x0), (1, .int x1), (2, .int x2)]) hx hb dX5_text_96 hl (k := 3) rfl (by rw [ev42]; rfl) (by decide) rfl (fun ls hl => ?_)
      refine lv_goto (tgt := 82) hx hb dX5_text_99 (by decide) ?_
      exact ih _ _ _ _ _ _ _ _ hp (lv_sub hl [1, 2, 3, 0] rfl) hF
def f_X5_text (S : mSh) (M : mMm) (x0 : Nat) (x1 : Int32) : Option (Int32 × mMm) := ob (rI S M x0 6 7) fun v1 => ob (wF S M x0 6 8 (.int v1)) fun M3 => ob (wF S M3 x0 6 7 (.int (0 : Int32))) fun M5 => ob (wF S M5 x0 6 9 (.int (0 : Int32))) fun M7 => ob (wF S M7 x0 6 10 (.int (-1 : Int32))) fun M9 => ob (wF S M9 x0 6 11 (.int (0 : Int32))) fun M11 => ob (wF S M11 x0 6 12 (.int (0 : Int32))) fun M13 => ob (wF S M13 x0 6 13 (.int (0 : Int32))) fun M15 => ob (wF S M15 x0 6 14 (.int (-1 : Int32))) fun M17 => ob (f_X5_within x1 (0 : Int32) (3 : Int32)) fun v20 => (if v20 = 0 then some ((-1 : Int32), M17) else ob (rR S M17 x0 6 0) fun v22 => ob (rR S M17 x0 6 16) fun v24 => ob (f_X5_copies S M17 v22 v24 (2425 : Int32)) fun M28 => nm ((0 : Int32)) fun v29 => ob (wF S M28 x0 6 17 (.int (0 : Int32))) fun M31 => (if x1 = (1 : Int32) then nm ((0 : Int32)) fun v34 => (fb_X5_text_82 S FU M31 x0 x1 v29 v34) else (fb_X5_text_102 S M31 x0 x1 v29)))
theorem w_X5_text {x0 : Nat} {x1 : Int32} {r : Int32} {M' : mMm} (hF : f_X5_text S M x0 x1 = some (r, M')) : mCt l D n0 P yX5_text cX5_text 4 (some .int) 9 199 0 0 [.ref x0, .int x1] S M n (some (.int r)) S M' n := by
  refine m_ofW (by decide) (Nat.le_of_ble_eq_true rfl) (fun p e s m below meth c X hnm hp ls hl => ?_)
  have hx := X.1.1
  have hb := X.1.2.1
  have hown := X.1.2.2.2.1
  have hts := X.1.2.2.2.2
  have hl : lv_has ls 4 [(0, .ref x0), (1, .int x1)] := hl
  unfold f_X5_text at hF
  refine lv_aload_n hx hb dX5_text_0 rfl (lv_at hl 0 rfl) ?_
  refine lv_aload_n hx hb dX5_text_1 rfl (lv_at hl 0 rfl) ?_
  obtain ⟨v1, e2, hF⟩ := ob_s hF
  refine m_getI X hp e2 kX5 (Nat.le_of_ble_eq_true rfl) q1466 dX5_text_2 ?_
  obtain ⟨M3, e4, hF⟩ := ob_s hF
  refine m_putW X hp e4 kX5 (Nat.le_of_ble_eq_true rfl) q1467 rfl rfl rfl dX5_text_5 (fun H locs hp => ?_)
  refine lv_aload_n hx hb dX5_text_8 rfl (lv_at hl 0 rfl) ?_
  refine lv_iconst (v := 0) hx hb dX5_text_9 (by decide) ?_
  obtain ⟨M5, e6, hF⟩ := ob_s hF
  refine m_putW X hp e6 kX5 (Nat.le_of_ble_eq_true rfl) q1466 rfl rfl rfl dX5_text_10 (fun H locs hp => ?_)
  refine lv_aload_n hx hb dX5_text_13 rfl (lv_at hl 0 rfl) ?_
  refine lv_iconst (v := 0) hx hb dX5_text_14 (by decide) ?_
  obtain ⟨M7, e8, hF⟩ := ob_s hF
  refine m_putW X hp e8 kX5 (Nat.le_of_ble_eq_true rfl) q1468 rfl rfl rfl dX5_text_15 (fun H locs hp => ?_)
  refine lv_aload_n hx hb dX5_text_18 rfl (lv_at hl 0 rfl) ?_
  refine lv_iconst (v := -1) hx hb dX5_text_19 (by decide) ?_
  obtain ⟨M9, e10, hF⟩ := ob_s hF
  refine m_putW X hp e10 kX5 (Nat.le_of_ble_eq_true rfl) q1469 rfl rfl rfl dX5_text_20 (fun H locs hp => ?_)
  refine lv_aload_n hx hb dX5_text_23 rfl (lv_at hl 0 rfl) ?_
  refine lv_iconst (v := 0) hx hb dX5_text_24 (by decide) ?_
  obtain ⟨M11, e12, hF⟩ := ob_s hF
  refine m_putW X hp e12 kX5 (Nat.le_of_ble_eq_true rfl) q1470 rfl rfl rfl dX5_text_25 (fun H locs hp => ?_)
  refine lv_aload_n hx hb dX5_text_28 rfl (lv_at hl 0 rfl) ?_
  refine lv_iconst (v := 0) hx hb dX5_text_29 (by decide) ?_
  obtain ⟨M13, e14, hF⟩ := ob_s hF
  refine m_putW X hp e14 kX5 (Nat.le_of_ble_eq_true rfl) q1471 rfl rfl rfl dX5_text_30 (fun H locs hp => ?_)
  refine lv_aload_n hx hb dX5_text_33 rfl (lv_at hl 0 rfl) ?_
  refine lv_iconst (v := 0) hx hb dX5_text_34 (by decide) ?_
  obtain ⟨M15, e16, hF⟩ := ob_s hF
  refine m_putW X hp e16 kX5 (Nat.le_of_ble_eq_true rfl) q1472 rfl rfl rfl dX5_text_35 (fun H locs hp => ?_)
  refine lv_aload_n hx hb dX5_text_38 rfl (lv_at hl 0 rfl) ?_
  refine lv_iconst (v := -1) hx hb dX5_text_39 (by decide) ?_
  obtain ⟨M17, e18, hF⟩ := ob_s hF
  refine m_putW X hp e18 kX5 (Nat.le_of_ble_eq_true rfl) q1473 rfl rfl rfl dX5_text_40 (fun H locs hp => ?_)
  refine lv_iload_n hx hb dX5_text_43 rfl (lv_at hl 1 rfl) ?_
  refine lv_iconst (v := 0) hx hb dX5_text_44 (by decide) ?_
  refine lv_iconst (v := 3) hx hb dX5_text_45 (by decide) ?_
  obtain ⟨v20, e19, hF⟩ := ob_s hF
  refine m_callS (As := [.int x1, .int (0 : Int32), .int (3 : Int32)]) (rest := []) X hp (w_X5_within e19) q1588 q1589 q144 q1590 3 rfl ds_X5_within ⟨Nat.le_of_ble_eq_true rfl, Nat.le_of_ble_eq_true rfl⟩ hl.1 rfl (Nat.le_of_ble_eq_true rfl) dX5_text_46 ⟨Nat.le_refl 0, Nat.le_refl 0⟩ (fun H locs hp => ?_)
  refine lv_if_ne (tgt := 54) hx hb dX5_text_49 (by decide) (fun c21 => ?_) (fun c21 => ?_)
  · have hF := if_n c21 hF
    refine lv_aload_n hx hb dX5_text_54 rfl (lv_at hl 0 rfl) ?_
    obtain ⟨v22, e23, hF⟩ := ob_s hF
    refine m_getR X hp e23 kX5 (Nat.le_of_ble_eq_true rfl) q1459 dX5_text_55 ?_
    refine lv_aload_n hx hb dX5_text_58 rfl (lv_at hl 0 rfl) ?_
    obtain ⟨v24, e25, hF⟩ := ob_s hF
    refine m_getR X hp e25 kX5 (Nat.le_of_ble_eq_true rfl) q1475 dX5_text_59 ?_
    refine lv_sipush (v := 2425) hx hb dX5_text_62 (by decide) ?_
    obtain ⟨M28, e26, hF⟩ := ob_s hF
    refine m_callS (As := [.ref v22, .ref v24, .int (2425 : Int32)]) (rest := []) X hp (w_X5_copies e26) q1595 q1596 q144 q1597 3 rfl ds_X5_copies ⟨Nat.le_of_ble_eq_true rfl, Nat.le_of_ble_eq_true rfl⟩ hl.1 rfl (Nat.le_of_ble_eq_true rfl) dX5_text_65 ⟨Nat.le_refl 0, Nat.le_refl 0⟩ (fun H locs hp => ?_)
    refine lv_iconst (v := 0) hx hb dX5_text_68 (by decide) ?_
    refine lv_topi (fun v29 ev30 => ?_)
    have hF := nm_s hF ev30
    refine lv_istore_n (lv' := [(2, .int v29), (0, .ref x0), (1, .int x1)]) hx hb dX5_text_69 rfl hl (by decide) rfl (fun ls hl => ?_)
    refine lv_aload_n hx hb dX5_text_70 rfl (lv_at hl 1 rfl) ?_
    refine lv_iconst (v := 0) hx hb dX5_text_71 (by decide) ?_
    obtain ⟨M31, e32, hF⟩ := ob_s hF
    refine m_putW X hp e32 kX5 (Nat.le_of_ble_eq_true rfl) q1476 rfl rfl rfl dX5_text_72 (fun H locs hp => ?_)
    refine lv_iload_n hx hb dX5_text_75 rfl (lv_at hl 2 rfl) ?_
    refine lv_iconst (v := 1) hx hb dX5_text_76 (by decide) ?_
    refine lv_icmp_ne (tgt := 102) hx hb dX5_text_77 (by decide) (fun c33 => ?_) (fun c33 => ?_)
    · have hF := if_n c33 hF
      exact b_X5_text_102 X _ _ _ _ _ _ _ hp (lv_sub hl [1, 2, 0] rfl) hF
    · have hF := if_p c33 hF
      refine lv_iconst (v := 0) hx hb dX5_text_80 (by decide) ?_
      refine lv_topi (fun v34 ev35 => ?_)
      have hF := nm_s hF ev35
      refine lv_istore_n (lv' := [(3, .int v34), (2, .int v29), (0, .ref x0), (1, .int x1)]) hx hb dX5_text_81 rfl hl (by decide) rfl (fun ls hl => ?_)
      exact b_X5_text_82 X _ _ _ _ _ _ _ _ _ hp (lv_sub hl [2, 3, 1, 0] rfl) hF
  · have hF := if_p c21 hF
    refine lv_iconst (v := -1) hx hb dX5_text_52 (by decide) ?_
    cases hF
    exact m_iret X hp dX5_text_53
end
section
variable {l : Launch} {D : va_G} {n0 : Nat} {P : mP} {S : mSh} {M : mMm} {n : Nat} {p : Program} {e : Env} {s : State} {m : MethodId} {args : Array Value} {below : List Frame} {meth : Method} {c : Code}
abbrev Rm_X5_turn : Room := { frames := 3, cells := 0, slots := 0, locals := 66 }
def f_X5_turn (S : mSh) (M : mMm) (x0 : Nat) (x1 : Int32) (x2 : Int32) : Option (Int32 × mMm) := gd ((S x0).1 = 6) (ob (f_X5_isWalker S M x0 x1) fun v3 => (if v3 = 0 then some ((0 : Int32), M) else ob (f_X5_within x2 (0 : Int32) (2 : Int32)) fun v6 => (if v6 = 0 then some ((0 : Int32), M) else ob (f_X5_begins S M x0) fun M10 => ob (f_X5_has S M10 x0 x1 (1 : Int32)) fun v12 => (if v12 = 0 then some ((0 : Int32), M10) else ob (f_X5_turnsRound S M10 x0 x1 x2) fun M16 => ob (f_X5_ends S M16 x0) fun M19 => some ((1 : Int32), M19)))))
theorem w_X5_turn {x0 : Nat} {x1 : Int32} {x2 : Int32} {r : Int32} {M' : mMm} (hF : f_X5_turn S M x0 x1 x2 = some (r, M')) : mCt l D n0 P yX5_turn cX5_turn 3 (some .boolean) 3 66 0 0 [.ref x0, .int x1, .int x2] S M n (some (.int r)) S M' n := by
  refine m_ofW (by decide) (Nat.le_of_ble_eq_true rfl) (fun p e s m below meth c X hnm hp ls hl => ?_)
  have hx := X.1.1
  have hb := X.1.2.1
  have hown := X.1.2.2.2.1
  have hts := X.1.2.2.2.2
  have hl : lv_has ls 3 [(0, .ref x0), (1, .int x1), (2, .int x2)] := hl
  unfold f_X5_turn at hF
  refine lv_aload_n hx hb dX5_turn_0 rfl (lv_at hl 0 rfl) ?_
  refine lv_iload_n hx hb dX5_turn_1 rfl (lv_at hl 1 rfl) ?_
  obtain ⟨g1, hF⟩ := gd_s hF
  obtain ⟨v3, e2, hF⟩ := ob_s hF
  refine m_callV (As := [.int x1]) (rest := []) X hp (w_X5_isWalker e2) q1847 q1849 qs111 q144 q1850 1 rfl ds_X5_isWalker ⟨Nat.le_of_ble_eq_true rfl, Nat.le_of_ble_eq_true rfl⟩ 6 (T := TX5) (N := 40) rfl (by decide) g1 hl.1 rfl (Nat.le_of_ble_eq_true rfl) dX5_turn_2 ⟨Nat.le_refl 0, Nat.le_refl 0⟩ (fun H locs hp => ?_)
  refine lv_if_eq (tgt := 17) hx hb dX5_turn_5 (by decide) (fun c4 => ?_) (fun c4 => ?_)
  · have hF := if_p c4 hF
    refine lv_iconst (v := 0) hx hb dX5_turn_17 (by decide) ?_
    cases hF
    exact m_zret X hp rfl dX5_turn_18
  · have hF := if_n c4 hF
    refine lv_iload_n hx hb dX5_turn_8 rfl (lv_at hl 2 rfl) ?_
    refine lv_iconst (v := 0) hx hb dX5_turn_9 (by decide) ?_
    refine lv_iconst (v := 2) hx hb dX5_turn_10 (by decide) ?_
    obtain ⟨v6, e5, hF⟩ := ob_s hF
    refine m_callS (As := [.int x2, .int (0 : Int32), .int (2 : Int32)]) (rest := []) X hp (w_X5_within e5) q1588 q1589 q144 q1590 3 rfl ds_X5_within ⟨Nat.le_of_ble_eq_true rfl, Nat.le_of_ble_eq_true rfl⟩ hl.1 rfl (Nat.le_of_ble_eq_true rfl) dX5_turn_11 ⟨Nat.le_refl 0, Nat.le_refl 0⟩ (fun H locs hp => ?_)
    refine lv_if_ne (tgt := 19) hx hb dX5_turn_14 (by decide) (fun c7 => ?_) (fun c7 => ?_)
    · have hF := if_n c7 hF
      refine lv_aload_n hx hb dX5_turn_19 rfl (lv_at hl 0 rfl) ?_
      obtain ⟨M10, e8, hF⟩ := ob_s hF
      refine m_callV (As := []) (rest := []) X hp (w_X5_begins e8) q1719 q1721 qs87 q144 q1722 0 rfl ds_X5_begins ⟨Nat.le_of_ble_eq_true rfl, Nat.le_of_ble_eq_true rfl⟩ 6 (T := TX5) (N := 40) rfl (by decide) g1 hl.1 rfl (Nat.le_of_ble_eq_true rfl) dX5_turn_20 ⟨Nat.le_refl 0, Nat.le_refl 0⟩ (fun H locs hp => ?_)
      refine lv_aload_n hx hb dX5_turn_23 rfl (lv_at hl 0 rfl) ?_
      refine lv_iload_n hx hb dX5_turn_24 rfl (lv_at hl 1 rfl) ?_
      refine lv_iconst (v := 1) hx hb dX5_turn_25 (by decide) ?_
      obtain ⟨v12, e11, hF⟩ := ob_s hF
      refine m_callV (As := [.int x1, .int (1 : Int32)]) (rest := []) X hp (w_X5_has e11) q1727 q1729 qs89 q144 q1730 2 rfl ds_X5_has ⟨Nat.le_of_ble_eq_true rfl, Nat.le_of_ble_eq_true rfl⟩ 6 (T := TX5) (N := 40) rfl (by decide) g1 hl.1 rfl (Nat.le_of_ble_eq_true rfl) dX5_turn_26 ⟨Nat.le_refl 0, Nat.le_refl 0⟩ (fun H locs hp => ?_)
      refine lv_if_ne (tgt := 34) hx hb dX5_turn_29 (by decide) (fun c13 => ?_) (fun c13 => ?_)
      · have hF := if_n c13 hF
        refine lv_aload_n hx hb dX5_turn_34 rfl (lv_at hl 0 rfl) ?_
        refine lv_iload_n hx hb dX5_turn_35 rfl (lv_at hl 1 rfl) ?_
        refine lv_iload_n hx hb dX5_turn_36 rfl (lv_at hl 2 rfl) ?_
        obtain ⟨M16, e14, hF⟩ := ob_s hF
        refine m_callV (As := [.int x1, .int x2]) (rest := []) X hp (w_X5_turnsRound e14) q1739 q1741 qs92 q144 q1742 2 rfl ds_X5_turnsRound ⟨Nat.le_of_ble_eq_true rfl, Nat.le_of_ble_eq_true rfl⟩ 6 (T := TX5) (N := 40) rfl (by decide) g1 hl.1 rfl (Nat.le_of_ble_eq_true rfl) dX5_turn_37 ⟨Nat.le_refl 0, Nat.le_refl 0⟩ (fun H locs hp => ?_)
        refine lv_aload_n hx hb dX5_turn_40 rfl (lv_at hl 0 rfl) ?_
        obtain ⟨M19, e17, hF⟩ := ob_s hF
        refine m_callV (As := []) (rest := []) X hp (w_X5_ends e17) q1823 q1825 qs108 q144 q1826 0 rfl ds_X5_ends ⟨Nat.le_of_ble_eq_true rfl, Nat.le_of_ble_eq_true rfl⟩ 6 (T := TX5) (N := 40) rfl (by decide) g1 hl.1 rfl (Nat.le_of_ble_eq_true rfl) dX5_turn_41 ⟨Nat.le_refl 0, Nat.le_refl 0⟩ (fun H locs hp => ?_)
        refine lv_iconst (v := 1) hx hb dX5_turn_44 (by decide) ?_
        cases hF
        exact m_zret X hp rfl dX5_turn_45
      · have hF := if_p c13 hF
        refine lv_iconst (v := 0) hx hb dX5_turn_32 (by decide) ?_
        cases hF
        exact m_zret X hp rfl dX5_turn_33
    · have hF := if_p c7 hF
      refine lv_iconst (v := 0) hx hb dX5_turn_17 (by decide) ?_
      cases hF
      exact m_zret X hp rfl dX5_turn_18
end
section
variable {l : Launch} {D : va_G} {n0 : Nat} {P : mP} {S : mSh} {M : mMm} {n : Nat} {p : Program} {e : Env} {s : State} {m : MethodId} {args : Array Value} {below : List Frame} {meth : Method} {c : Code}
abbrev Rm_X5_turnRows : Room := { frames := 1, cells := 0, slots := 0, locals := 21 }
def fb_X5_turnRows_19 (S : mSh) (k9 : mMm → Nat → Int32 → Int32 → Int32 → Option mMm) : Nat → mMm → Nat → Int32 → Int32 → Int32 → Int32 → Option mMm
  | 0, _, _, _, _, _, _ => none
  | t + 1, M, x0, x1, x2, x3, x4 => (if (2 : Int32) ≤ x4 then nm (x3 + (1 : Int32)) fun v12 => (k9 M x0 x1 x2 v12) else ob (f_X5_turned (x3 - x3 / (4 : Int32) * (4 : Int32)) ((1 : Int32) - x4)) fun v15 => nm ((((x3 / (4 : Int32)) * (4 : Int32)) + v15)) fun v16 => nm ((((x2 - (1 : Int32)) * (1728 : Int32)) + ((3 : Int32) * v16))) fun v18 => ob (rR S M x0 6 24) fun v20 => ob (rR S M x0 6 24) fun v22 => ob (aI S M v22 100 v18) fun v24 => ob (rR S M x0 6 24) fun v26 => ob (aI S M v26 100 ((v18 + (1 : Int32)) + x4)) fun v28 => ob (f_X5_plus v24 v28) fun v31 => ob (wA S M v20 100 ((((x2 * (1728 : Int32)) + ((3 : Int32) * x3)) + (1 : Int32)) + x4) (.int v31)) fun M32 => nm (x4 + (1 : Int32)) fun v34 => (fb_X5_turnRows_19 S k9 t M32 x0 x1 x2 x3 v34))
theorem b_X5_turnRows_19 {M' : mMm} (X : mCx D n0 P p m c cX5_turnRows 7 s args yX5_turnRows.cls meth none) (k9 : mMm → Nat → Int32 → Int32 → Int32 → Option mMm) (hk9 : ∀ (M : mMm) (x0 : Nat) (x1 : Int32) (x2 : Int32) (x3 : Int32) (H : Heap) (locs : List Loc) (ls : Array Slot), mHp D n0 S M n s H locs → lv_has ls 7 [(0, .ref x0), (1, .int x1), (2, .int x2), (3, .int x3)] → k9 M x0 x1 x2 x3 = some M' → W p l e Rm_X5_turnRows s m args below meth c H locs 0 0 (MQ below (mQ D n0 none S M' n) args s 0 0 (mA n0)) (F0 m 9 ls [])) : ∀ t : Nat, ∀ (M : mMm) (x0 : Nat) (x1 : Int32) (x2 : Int32) (x3 : Int32) (x4 : Int32) (H : Heap) (locs : List Loc) (ls : Array Slot), mHp D n0 S M n s H locs → lv_has ls 7 [(0, .ref x0), (1, .int x1), (2, .int x2), (3, .int x3), (4, .int x4)] → fb_X5_turnRows_19 S k9 t M x0 x1 x2 x3 x4 = some M' → W p l e Rm_X5_turnRows s m args below meth c H locs 0 0 (MQ below (mQ D n0 none S M' n) args s 0 0 (mA n0)) (F0 m 19 ls []) := by
  have hx := X.1.1
  have hb := X.1.2.1
  have hown := X.1.2.2.2.1
  have hts := X.1.2.2.2.2
  intro t
  induction t with
  | zero =>
    intro M x0 x1 x2 x3 x4 H locs ls hp hl hF
    have hF : none = some M' := hF
    cases hF
  | succ t ih =>
    intro M x0 x1 x2 x3 x4 H locs ls hp hl hF
    rw [fb_X5_turnRows_19] at hF
    refine lv_iload hx hb dX5_turnRows_19 (lv_at hl 4 rfl) ?_
    refine lv_iconst (v := 2) hx hb dX5_turnRows_21 (by decide) ?_
    refine lv_icmp_ge (tgt := 104) hx hb dX5_turnRows_22 (by decide) (fun c11 => ?_) (fun c11 => ?_)
    · have hF := if_p c11 hF
      obtain ⟨v12, ev13⟩ : ∃ y : Int32, y = x3 + (1 : Int32) := ⟨_, rfl⟩
      have hF := nm_s hF ev13
      refine lv_iinc (v := v12) (lv' := [(3, .int v12), (0, .ref x0), (1, .int x1), (2, .int x2), (4, .int x4)]) hx hb dX5_turnRows_104 hl (k := 3) rfl (by rw [ev13]; rfl) (by decide) rfl (fun ls hl => ?_)
      refine lv_goto (tgt := 9) hx hb dX5_turnRows_107 (by decide) ?_
      exact hk9 _ _ _ _ _ _ _ _ hp (lv_sub hl [1, 2, 3, 0] rfl) hF
    · have hF := if_n c11 hF
      refine lv_iload_n hx hb dX5_turnRows_25 rfl (lv_at hl 3 rfl) ?_
      refine lv_iconst (v := 4) hx hb dX5_turnRows_26 (by decide) ?_
      refine lv_idiv hx hb dX5_turnRows_27 (by decide) ?_
      refine lv_iconst (v := 4) hx hb dX5_turnRows_28 (by decide) ?_
      refine lv_imul hx hb dX5_turnRows_29 ?_
      refine lv_iload_n hx hb dX5_turnRows_30 rfl (lv_at hl 3 rfl) ?_
      refine lv_iconst (v := 4) hx hb dX5_turnRows_31 (by decide) ?_
      refine lv_irem hx hb dX5_turnRows_32 (by decide) ?_
      refine lv_iconst (v := 1) hx hb dX5_turnRows_33 (by decide) ?_
      refine lv_iload hx hb dX5_turnRows_34 (lv_at hl 4 rfl) ?_
      refine lv_isub hx hb dX5_turnRows_36 ?_
      obtain ⟨v15, e14, hF⟩ := ob_s hF
      refine m_callS (As := [.int (x3 - x3 / (4 : Int32) * (4 : Int32)), .int ((1 : Int32) - x4)]) (rest := [.int ((x3 / (4 : Int32)) * (4 : Int32))]) X hp (w_X5_turned e14) q1743 q1744 q144 q1745 2 rfl ds_X5_turned ⟨Nat.le_of_ble_eq_true rfl, Nat.le_of_ble_eq_true rfl⟩ hl.1 rfl (Nat.le_of_ble_eq_true rfl) dX5_turnRows_37 ⟨Nat.le_refl 0, Nat.le_refl 0⟩ (fun H locs hp => ?_)
      refine lv_iadd hx hb dX5_turnRows_40 ?_
      refine lv_topi (fun v16 ev17 => ?_)
      have hF := nm_s hF ev17
      refine lv_istore (lv' := [(5, .int v16), (0, .ref x0), (1, .int x1), (2, .int x2), (3, .int x3), (4, .int x4)]) hx hb dX5_turnRows_41 hl (by decide) rfl (fun ls hl => ?_)
      refine lv_iload_n hx hb dX5_turnRows_43 rfl (lv_at hl 3 rfl) ?_
      refine lv_iconst (v := 1) hx hb dX5_turnRows_44 (by decide) ?_
      refine lv_isub hx hb dX5_turnRows_45 ?_
      refine lv_sipush (v := 1728) hx hb dX5_turnRows_46 (by decide) ?_
      refine lv_imul hx hb dX5_turnRows_49 ?_
      refine lv_iconst (v := 3) hx hb dX5_turnRows_50 (by decide) ?_
      refine lv_iload hx hb dX5_turnRows_51 (lv_at hl 0 rfl) ?_
      refine lv_imul hx hb dX5_turnRows_53 ?_
      refine lv_iadd hx hb dX5_turnRows_54 ?_
      refine lv_topi (fun v18 ev19 => ?_)
      have hF := nm_s hF ev19
      refine lv_istore (lv' := [(6, .int v18), (5, .int v16), (0, .ref x0), (1, .int x1), (2, .int x2), (3, .int x3), (4, .int x4)]) hx hb dX5_turnRows_55 hl (by decide) rfl (fun ls hl => ?_)
      refine lv_aload_n hx hb dX5_turnRows_57 rfl (lv_at hl 2 rfl) ?_
      obtain ⟨v20, e21, hF⟩ := ob_s hF
      refine m_getR X hp e21 kX5 (Nat.le_of_ble_eq_true rfl) q1483 dX5_turnRows_58 ?_
      refine lv_iload_n hx hb dX5_turnRows_61 rfl (lv_at hl 4 rfl) ?_
      refine lv_sipush (v := 1728) hx hb dX5_turnRows_62 (by decide) ?_
      refine lv_imul hx hb dX5_turnRows_65 ?_
      refine lv_iconst (v := 3) hx hb dX5_turnRows_66 (by decide) ?_
      refine lv_iload_n hx hb dX5_turnRows_67 rfl (lv_at hl 5 rfl) ?_
      refine lv_imul hx hb dX5_turnRows_68 ?_
      refine lv_iadd hx hb dX5_turnRows_69 ?_
      refine lv_iconst (v := 1) hx hb dX5_turnRows_70 (by decide) ?_
      refine lv_iadd hx hb dX5_turnRows_71 ?_
      refine lv_iload hx hb dX5_turnRows_72 (lv_at hl 6 rfl) ?_
      refine lv_iadd hx hb dX5_turnRows_74 ?_
      refine lv_aload_n hx hb dX5_turnRows_75 rfl (lv_at hl 2 rfl) ?_
      obtain ⟨v22, e23, hF⟩ := ob_s hF
      refine m_getR X hp e23 kX5 (Nat.le_of_ble_eq_true rfl) q1483 dX5_turnRows_76 ?_
      refine lv_iload hx hb dX5_turnRows_79 (lv_at hl 0 rfl) ?_
      obtain ⟨v24, e25, hF⟩ := ob_s hF
      refine m_iaI X hp e25 dX5_turnRows_81 ?_
      refine lv_aload_n hx hb dX5_turnRows_82 rfl (lv_at hl 2 rfl) ?_
      obtain ⟨v26, e27, hF⟩ := ob_s hF
      refine m_getR X hp e27 kX5 (Nat.le_of_ble_eq_true rfl) q1483 dX5_turnRows_83 ?_
      refine lv_iload hx hb dX5_turnRows_86 (lv_at hl 0 rfl) ?_
      refine lv_iconst (v := 1) hx hb dX5_turnRows_88 (by decide) ?_
      refine lv_iadd hx hb dX5_turnRows_89 ?_
      refine lv_iload hx hb dX5_turnRows_90 (lv_at hl 6 rfl) ?_
      refine lv_iadd hx hb dX5_turnRows_92 ?_
      obtain ⟨v28, e29, hF⟩ := ob_s hF
      refine m_iaI X hp e29 dX5_turnRows_93 ?_
      obtain ⟨v31, e30, hF⟩ := ob_s hF
      refine m_callS (As := [.int v24, .int v28]) (rest := [.int ((((x2 * (1728 : Int32)) + ((3 : Int32) * x3)) + (1 : Int32)) + x4), .ref v20]) X hp (w_X5_plus e30) q1935 q1936 q144 q1937 2 rfl ds_X5_plus ⟨Nat.le_of_ble_eq_true rfl, Nat.le_of_ble_eq_true rfl⟩ hl.1 rfl (Nat.le_of_ble_eq_true rfl) dX5_turnRows_94 ⟨Nat.le_refl 0, Nat.le_refl 0⟩ (fun H locs hp => ?_)
      obtain ⟨M32, e33, hF⟩ := ob_s hF
      refine m_iaW X hp e33 dX5_turnRows_97 (fun H locs hp => ?_)
      obtain ⟨v34, ev35⟩ : ∃ y : Int32, y = x4 + (1 : Int32) := ⟨_, rfl⟩
      have hF := nm_s hF ev35
      refine lv_iinc (v := v34) (lv' := [(4, .int v34), (6, .int v18), (5, .int v16), (0, .ref x0), (1, .int x1), (2, .int x2), (3, .int x3)]) hx hb dX5_turnRows_98 hl (k := 6) rfl (by rw [ev35]; rfl) (by decide) rfl (fun ls hl => ?_)
      refine lv_goto (tgt := 19) hx hb dX5_turnRows_101 (by decide) ?_
      exact ih _ _ _ _ _ _ _ _ _ hp (lv_sub hl [3, 4, 5, 6, 0] rfl) hF
def fb_X5_turnRows_9 (S : mSh) (k2 : mMm → Nat → Int32 → Int32 → Option mMm) : Nat → mMm → Nat → Int32 → Int32 → Int32 → Option mMm
  | 0, _, _, _, _, _ => none
  | t + 1, M, x0, x1, x2, x3 => (if (576 : Int32) ≤ x3 then nm (x2 + (1 : Int32)) fun v7 => (k2 M x0 x1 v7) else nm ((0 : Int32)) fun v9 => (fb_X5_turnRows_19 S (fb_X5_turnRows_9 S k2 t) FU M x0 x1 x2 x3 v9))
theorem b_X5_turnRows_9 {M' : mMm} (X : mCx D n0 P p m c cX5_turnRows 7 s args yX5_turnRows.cls meth none) (k2 : mMm → Nat → Int32 → Int32 → Option mMm) (hk2 : ∀ (M : mMm) (x0 : Nat) (x1 : Int32) (x2 : Int32) (H : Heap) (locs : List Loc) (ls : Array Slot), mHp D n0 S M n s H locs → lv_has ls 7 [(0, .ref x0), (1, .int x1), (2, .int x2)] → k2 M x0 x1 x2 = some M' → W p l e Rm_X5_turnRows s m args below meth c H locs 0 0 (MQ below (mQ D n0 none S M' n) args s 0 0 (mA n0)) (F0 m 2 ls [])) : ∀ t : Nat, ∀ (M : mMm) (x0 : Nat) (x1 : Int32) (x2 : Int32) (x3 : Int32) (H : Heap) (locs : List Loc) (ls : Array Slot), mHp D n0 S M n s H locs → lv_has ls 7 [(0, .ref x0), (1, .int x1), (2, .int x2), (3, .int x3)] → fb_X5_turnRows_9 S k2 t M x0 x1 x2 x3 = some M' → W p l e Rm_X5_turnRows s m args below meth c H locs 0 0 (MQ below (mQ D n0 none S M' n) args s 0 0 (mA n0)) (F0 m 9 ls []) := by
  have hx := X.1.1
  have hb := X.1.2.1
  have hown := X.1.2.2.2.1
  have hts := X.1.2.2.2.2
  intro t
  induction t with
  | zero =>
    intro M x0 x1 x2 x3 H locs ls hp hl hF
    have hF : none = some M' := hF
    cases hF
  | succ t ih =>
    intro M x0 x1 x2 x3 H locs ls hp hl hF
    rw [fb_X5_turnRows_9] at hF
    refine lv_iload_n hx hb dX5_turnRows_9 rfl (lv_at hl 3 rfl) ?_
    refine lv_sipush (v := 576) hx hb dX5_turnRows_10 (by decide) ?_
    refine lv_icmp_ge (tgt := 110) hx hb dX5_turnRows_13 (by decide) (fun c6 => ?_) (fun c6 => ?_)
    · have hF := if_p c6 hF
      obtain ⟨v7, ev8⟩ : ∃ y : Int32, y = x2 + (1 : Int32) := ⟨_, rfl⟩
      have hF := nm_s hF ev8
      refine lv_iinc (v := v7) (lv' := [(2, .int v7), (0, .ref x0), (1, .int x1), (3, .int x3)]) hx hb dX5_turnRows_110 hl (k := 2) rfl (by rw [ev8]; rfl) (by decide) rfl (fun ls hl => ?_)
      refine lv_goto (tgt := 2) hx hb dX5_turnRows_113 (by decide) ?_
      exact hk2 _ _ _ _ _ _ _ hp (lv_sub hl [1, 2, 0] rfl) hF
    · have hF := if_n c6 hF
      refine lv_iconst (v := 0) hx hb dX5_turnRows_16 (by decide) ?_
      refine lv_topi (fun v9 ev10 => ?_)
      have hF := nm_s hF ev10
      refine lv_istore (lv' := [(4, .int v9), (0, .ref x0), (1, .int x1), (2, .int x2), (3, .int x3)]) hx hb dX5_turnRows_17 hl (by decide) rfl (fun ls hl => ?_)
      exact b_X5_turnRows_19 X _ ih _ _ _ _ _ _ _ _ _ _ hp (lv_sub hl [1, 2, 3, 4, 0] rfl) hF
def fb_X5_turnRows_2 (S : mSh) : Nat → mMm → Nat → Int32 → Int32 → Option mMm
  | 0, _, _, _, _ => none
  | t + 1, M, x0, x1, x2 => (if x1 < x2 then some M else nm ((0 : Int32)) fun v4 => (fb_X5_turnRows_9 S (fb_X5_turnRows_2 S t) FU M x0 x1 x2 v4))
theorem b_X5_turnRows_2 {M' : mMm} (X : mCx D n0 P p m c cX5_turnRows 7 s args yX5_turnRows.cls meth none) : ∀ t : Nat, ∀ (M : mMm) (x0 : Nat) (x1 : Int32) (x2 : Int32) (H : Heap) (locs : List Loc) (ls : Array Slot), mHp D n0 S M n s H locs → lv_has ls 7 [(0, .ref x0), (1, .int x1), (2, .int x2)] → fb_X5_turnRows_2 S t M x0 x1 x2 = some M' → W p l e Rm_X5_turnRows s m args below meth c H locs 0 0 (MQ below (mQ D n0 none S M' n) args s 0 0 (mA n0)) (F0 m 2 ls []) := by
  have hx := X.1.1
  have hb := X.1.2.1
  have hown := X.1.2.2.2.1
  have hts := X.1.2.2.2.2
  intro t
  induction t with
  | zero =>
    intro M x0 x1 x2 H locs ls hp hl hF
    have hF : none = some M' := hF
    cases hF
  | succ t ih =>
    intro M x0 x1 x2 H locs ls hp hl hF
    rw [fb_X5_turnRows_2] at hF
    refine lv_iload_n hx hb dX5_turnRows_2 rfl (lv_at hl 2 rfl) ?_
    refine lv_iload_n hx hb dX5_turnRows_3 rfl (lv_at hl 1 rfl) ?_
    refine lv_icmp_gt (tgt := 116) hx hb dX5_turnRows_4 (by decide) (fun c3 => ?_) (fun c3 => ?_)
    · have hF := if_p c3 hF
      cases hF
      exact m_vret X hp dX5_turnRows_116
    · have hF := if_n c3 hF
      refine lv_iconst (v := 0) hx hb dX5_turnRows_7 (by decide) ?_
      refine lv_topi (fun v4 ev5 => ?_)
      have hF := nm_s hF ev5
      refine lv_istore_n (lv' := [(3, .int v4), (0, .ref x0), (1, .int x1), (2, .int x2)]) hx hb dX5_turnRows_8 rfl hl (by decide) rfl (fun ls hl => ?_)
      exact b_X5_turnRows_9 X _ ih _ _ _ _ _ _ _ _ _ hp (lv_sub hl [1, 2, 3, 0] rfl) hF
def f_X5_turnRows (S : mSh) (M : mMm) (x0 : Nat) (x1 : Int32) : Option mMm := nm ((1 : Int32)) fun v1 => (fb_X5_turnRows_2 S FU M x0 x1 v1)
theorem w_X5_turnRows {x0 : Nat} {x1 : Int32} {M' : mMm} (hF : f_X5_turnRows S M x0 x1 = some M') : mCt l D n0 P yX5_turnRows cX5_turnRows 7 none 1 21 0 0 [.ref x0, .int x1] S M n none S M' n := by
  refine m_ofW (by decide) (Nat.le_of_ble_eq_true rfl) (fun p e s m below meth c X hnm hp ls hl => ?_)
  have hx := X.1.1
  have hb := X.1.2.1
  have hown := X.1.2.2.2.1
  have hts := X.1.2.2.2.2
  have hl : lv_has ls 7 [(0, .ref x0), (1, .int x1)] := hl
  unfold f_X5_turnRows at hF
  refine lv_iconst (v := 1) hx hb dX5_turnRows_0 (by decide) ?_
  refine lv_topi (fun v1 ev2 => ?_)
  have hF := nm_s hF ev2
  refine lv_istore_n (lv' := [(2, .int v1), (0, .ref x0), (1, .int x1)]) hx hb dX5_turnRows_1 rfl hl (by decide) rfl (fun ls hl => ?_)
  exact b_X5_turnRows_2 X _ _ _ _ _ _ _ _ hp (lv_sub hl [1, 2, 0] rfl) hF
end
section
variable {l : Launch} {D : va_G} {n0 : Nat} {P : mP} {S : mSh} {M : mMm} {n : Nat} {p : Program} {e : Env} {s : State} {m : MethodId} {args : Array Value} {below : List Frame} {meth : Method} {c : Code}
abbrev Rm_X5_undo : Room := { frames := 0, cells := 0, slots := 0, locals := 0 }
def fb_X5_undo_21 (S : mSh) : Nat → mMm → Nat → Int32 → Option (Int32 × mMm)
  | 0, _, _, _ => none
  | t + 1, M, x0, x1 => (if (940 : Int32) ≤ x1 then some ((1 : Int32), M) else ob (rR S M x0 6 0) fun v11 => ob (rR S M x0 6 3) fun v13 => ob (rI S M x0 6 4) fun v15 => ob (aI S M v13 100 (((940 : Int32) * v15) + x1)) fun v17 => ob (wA S M v11 100 x1 (.int v17)) fun M19 => nm (x1 + (1 : Int32)) fun v21 => (fb_X5_undo_21 S t M19 x0 v21))
theorem b_X5_undo_21 {r : Int32} {M' : mMm} (X : mCx D n0 P p m c cX5_undo 2 s args yX5_undo.cls meth (some .boolean)) : ∀ t : Nat, ∀ (M : mMm) (x0 : Nat) (x1 : Int32) (H : Heap) (locs : List Loc) (ls : Array Slot), mHp D n0 S M n s H locs → lv_has ls 2 [(0, .ref x0), (1, .int x1)] → fb_X5_undo_21 S t M x0 x1 = some (r, M') → W p l e Rm_X5_undo s m args below meth c H locs 0 0 (MQ below (mQ D n0 (some (.int r)) S M' n) args s 0 0 (mA n0)) (F0 m 21 ls []) := by
  have hx := X.1.1
  have hb := X.1.2.1
  have hown := X.1.2.2.2.1
  have hts := X.1.2.2.2.2
  intro t
  induction t with
  | zero =>
    intro M x0 x1 H locs ls hp hl hF
    have hF : none = some (r, M') := hF
    cases hF
  | succ t ih =>
    intro M x0 x1 H locs ls hp hl hF
    rw [fb_X5_undo_21] at hF
    refine lv_iload_n hx hb dX5_undo_21 rfl (lv_at hl 1 rfl) ?_
    refine lv_sipush (v := 940) hx hb dX5_undo_22 (by decide) ?_
    refine lv_icmp_ge (tgt := 55) hx hb dX5_undo_25 (by decide) (fun c10 => ?_) (fun c10 => ?_)
    · have hF := if_p c10 hF
      refine lv_iconst (v := 1) hx hb dX5_undo_55 (by decide) ?_
      cases hF
      exact m_zret X hp rfl dX5_undo_56
    · have hF := if_n c10 hF
      refine lv_aload_n hx hb dX5_undo_28 rfl (lv_at hl 0 rfl) ?_
      obtain ⟨v11, e12, hF⟩ := ob_s hF
      refine m_getR X hp e12 kX5 (Nat.le_of_ble_eq_true rfl) q1459 dX5_undo_29 ?_
      refine lv_iload_n hx hb dX5_undo_32 rfl (lv_at hl 1 rfl) ?_
      refine lv_aload_n hx hb dX5_undo_33 rfl (lv_at hl 0 rfl) ?_
      obtain ⟨v13, e14, hF⟩ := ob_s hF
      refine m_getR X hp e14 kX5 (Nat.le_of_ble_eq_true rfl) q1462 dX5_undo_34 ?_
      refine lv_sipush (v := 940) hx hb dX5_undo_37 (by decide) ?_
      refine lv_aload_n hx hb dX5_undo_40 rfl (lv_at hl 0 rfl) ?_
      obtain ⟨v15, e16, hF⟩ := ob_s hF
      refine m_getI X hp e16 kX5 (Nat.le_of_ble_eq_true rfl) q1463 dX5_undo_41 ?_
      refine lv_imul hx hb dX5_undo_44 ?_
      refine lv_iload_n hx hb dX5_undo_45 rfl (lv_at hl 1 rfl) ?_
      refine lv_iadd hx hb dX5_undo_46 ?_
      obtain ⟨v17, e18, hF⟩ := ob_s hF
      refine m_iaI X hp e18 dX5_undo_47 ?_
      obtain ⟨M19, e20, hF⟩ := ob_s hF
      refine m_iaW X hp e20 dX5_undo_48 (fun H locs hp => ?_)
      obtain ⟨v21, ev22⟩ : ∃ y : Int32, y = x1 + (1 : Int32) := ⟨_, rfl⟩
      have hF := nm_s hF ev22
      refine lv_iinc (v := v21) (lv' := [(1, .int v21), (0, .ref x0)]) hx hb dX5_undo_49 hl (k := 1) rfl (by rw [ev22]; rfl) (by decide) rfl (fun ls hl => ?_)
      refine lv_goto (tgt := 21) hx hb dX5_undo_52 (by decide) ?_
      exact ih _ _ _ _ _ _ hp (lv_sub hl [1, 0] rfl) hF
def f_X5_undo (S : mSh) (M : mMm) (x0 : Nat) : Option (Int32 × mMm) := ob (rI S M x0 6 4) fun v1 => (if v1 = 0 then some ((0 : Int32), M) else ob (rI S M x0 6 4) fun v4 => ob (wF S M x0 6 4 (.int (v4 - (1 : Int32)))) fun M6 => nm ((0 : Int32)) fun v8 => (fb_X5_undo_21 S FU M6 x0 v8))
theorem w_X5_undo {x0 : Nat} {r : Int32} {M' : mMm} (hF : f_X5_undo S M x0 = some (r, M')) : mCt l D n0 P yX5_undo cX5_undo 2 (some .boolean) 0 0 0 0 [.ref x0] S M n (some (.int r)) S M' n := by
  refine m_ofW (by decide) (Nat.le_of_ble_eq_true rfl) (fun p e s m below meth c X hnm hp ls hl => ?_)
  have hx := X.1.1
  have hb := X.1.2.1
  have hown := X.1.2.2.2.1
  have hts := X.1.2.2.2.2
  have hl : lv_has ls 2 [(0, .ref x0)] := hl
  unfold f_X5_undo at hF
  refine lv_aload_n hx hb dX5_undo_0 rfl (lv_at hl 0 rfl) ?_
  obtain ⟨v1, e2, hF⟩ := ob_s hF
  refine m_getI X hp e2 kX5 (Nat.le_of_ble_eq_true rfl) q1463 dX5_undo_1 ?_
  refine lv_if_ne (tgt := 9) hx hb dX5_undo_4 (by decide) (fun c3 => ?_) (fun c3 => ?_)
  · have hF := if_n c3 hF
    refine lv_aload_n hx hb dX5_undo_9 rfl (lv_at hl 0 rfl) ?_
    refine lv_dup hx hb dX5_undo_10 rfl ?_
    obtain ⟨v4, e5, hF⟩ := ob_s hF
    refine m_getI X hp e5 kX5 (Nat.le_of_ble_eq_true rfl) q1463 dX5_undo_11 ?_
    refine lv_iconst (v := 1) hx hb dX5_undo_14 (by decide) ?_
    refine lv_isub hx hb dX5_undo_15 ?_
    obtain ⟨M6, e7, hF⟩ := ob_s hF
    refine m_putW X hp e7 kX5 (Nat.le_of_ble_eq_true rfl) q1463 rfl rfl rfl dX5_undo_16 (fun H locs hp => ?_)
    refine lv_iconst (v := 0) hx hb dX5_undo_19 (by decide) ?_
    refine lv_topi (fun v8 ev9 => ?_)
    have hF := nm_s hF ev9
    refine lv_istore_n (lv' := [(1, .int v8), (0, .ref x0)]) hx hb dX5_undo_20 rfl hl (by decide) rfl (fun ls hl => ?_)
    exact b_X5_undo_21 X _ _ _ _ _ _ _ hp (lv_sub hl [1, 0] rfl) hF
  · have hF := if_p c3 hF
    refine lv_iconst (v := 0) hx hb dX5_undo_7 (by decide) ?_
    cases hF
    exact m_zret X hp rfl dX5_undo_8
end
section
variable {l : Launch} {D : va_G} {n0 : Nat} {P : mP} {S : mSh} {M : mMm} {n : Nat} {p : Program} {e : Env} {s : State} {m : MethodId} {args : Array Value} {below : List Frame} {meth : Method} {c : Code}
abbrev Rm_X5_walker : Room := { frames := 1, cells := 0, slots := 0, locals := 22 }
def f_X5_walker (S : mSh) (M : mMm) (x0 : Nat) (x1 : Int32) : Option (Int32 × mMm) := ob (f_X5_within x1 (0 : Int32) (9 : Int32)) fun v2 => (if v2 = 0 then some ((-1 : Int32), M) else ob (rR S M x0 6 0) fun v4 => ob (aI S M v4 100 (940 : Int32)) fun v6 => (if v6 = (16 : Int32) then some ((-1 : Int32), M) else ob (rR S M x0 6 0) fun v9 => ob (rR S M x0 6 0) fun v11 => ob (aI S M v11 100 (940 : Int32)) fun v13 => ob (wA S M v9 100 (((144 : Int32) + ((12 : Int32) * v13)) + (0 : Int32)) (.int x1)) fun M15 => ob (rR S M15 x0 6 0) fun v17 => ob (aI S M15 v17 100 (940 : Int32)) fun v19 => ob (wA S M15 v17 100 (940 : Int32) (.int (v19 + (1 : Int32)))) fun M21 => ob (wF S M21 x0 6 4 (.int (0 : Int32))) fun M23 => ob (rR S M23 x0 6 0) fun v25 => ob (aI S M23 v25 100 (940 : Int32)) fun v27 => some ((v27 - (1 : Int32)), M23)))
theorem w_X5_walker {x0 : Nat} {x1 : Int32} {r : Int32} {M' : mMm} (hF : f_X5_walker S M x0 x1 = some (r, M')) : mCt l D n0 P yX5_walker cX5_walker 2 (some .int) 1 22 0 0 [.ref x0, .int x1] S M n (some (.int r)) S M' n := by
  refine m_ofW (by decide) (Nat.le_of_ble_eq_true rfl) (fun p e s m below meth c X hnm hp ls hl => ?_)
  have hx := X.1.1
  have hb := X.1.2.1
  have hown := X.1.2.2.2.1
  have hts := X.1.2.2.2.2
  have hl : lv_has ls 2 [(0, .ref x0), (1, .int x1)] := hl
  unfold f_X5_walker at hF
  refine lv_iload_n hx hb dX5_walker_0 rfl (lv_at hl 1 rfl) ?_
  refine lv_iconst (v := 0) hx hb dX5_walker_1 (by decide) ?_
  refine lv_bipush (v := 9) hx hb dX5_walker_2 (by decide) ?_
  obtain ⟨v2, e1, hF⟩ := ob_s hF
  refine m_callS (As := [.int x1, .int (0 : Int32), .int (9 : Int32)]) (rest := []) X hp (w_X5_within e1) q1588 q1589 q144 q1590 3 rfl ds_X5_within ⟨Nat.le_of_ble_eq_true rfl, Nat.le_of_ble_eq_true rfl⟩ hl.1 rfl (Nat.le_of_ble_eq_true rfl) dX5_walker_4 ⟨Nat.le_refl 0, Nat.le_refl 0⟩ (fun H locs hp => ?_)
  refine lv_if_eq (tgt := 23) hx hb dX5_walker_7 (by decide) (fun c3 => ?_) (fun c3 => ?_)
  · have hF := if_p c3 hF
    refine lv_iconst (v := -1) hx hb dX5_walker_23 (by decide) ?_
    cases hF
    exact m_iret X hp dX5_walker_24
  · have hF := if_n c3 hF
    refine lv_aload_n hx hb dX5_walker_10 rfl (lv_at hl 0 rfl) ?_
    obtain ⟨v4, e5, hF⟩ := ob_s hF
    refine m_getR X hp e5 kX5 (Nat.le_of_ble_eq_true rfl) q1459 dX5_walker_11 ?_
    refine lv_sipush (v := 940) hx hb dX5_walker_14 (by decide) ?_
    obtain ⟨v6, e7, hF⟩ := ob_s hF
    refine m_iaI X hp e7 dX5_walker_17 ?_
    refine lv_bipush (v := 16) hx hb dX5_walker_18 (by decide) ?_
    refine lv_icmp_ne (tgt := 25) hx hb dX5_walker_20 (by decide) (fun c8 => ?_) (fun c8 => ?_)
    · have hF := if_n c8 hF
      refine lv_aload_n hx hb dX5_walker_25 rfl (lv_at hl 0 rfl) ?_
      obtain ⟨v9, e10, hF⟩ := ob_s hF
      refine m_getR X hp e10 kX5 (Nat.le_of_ble_eq_true rfl) q1459 dX5_walker_26 ?_
      refine lv_sipush (v := 144) hx hb dX5_walker_29 (by decide) ?_
      refine lv_bipush (v := 12) hx hb dX5_walker_32 (by decide) ?_
      refine lv_aload_n hx hb dX5_walker_34 rfl (lv_at hl 0 rfl) ?_
      obtain ⟨v11, e12, hF⟩ := ob_s hF
      refine m_getR X hp e12 kX5 (Nat.le_of_ble_eq_true rfl) q1459 dX5_walker_35 ?_
      refine lv_sipush (v := 940) hx hb dX5_walker_38 (by decide) ?_
      obtain ⟨v13, e14, hF⟩ := ob_s hF
      refine m_iaI X hp e14 dX5_walker_41 ?_
      refine lv_imul hx hb dX5_walker_42 ?_
      refine lv_iadd hx hb dX5_walker_43 ?_
      refine lv_iconst (v := 0) hx hb dX5_walker_44 (by decide) ?_
      refine lv_iadd hx hb dX5_walker_45 ?_
      refine lv_iload_n hx hb dX5_walker_46 rfl (lv_at hl 1 rfl) ?_
      obtain ⟨M15, e16, hF⟩ := ob_s hF
      refine m_iaW X hp e16 dX5_walker_47 (fun H locs hp => ?_)
      refine lv_aload_n hx hb dX5_walker_48 rfl (lv_at hl 0 rfl) ?_
      obtain ⟨v17, e18, hF⟩ := ob_s hF
      refine m_getR X hp e18 kX5 (Nat.le_of_ble_eq_true rfl) q1459 dX5_walker_49 ?_
      refine lv_sipush (v := 940) hx hb dX5_walker_52 (by decide) ?_
      refine lv_dup2_11 hx hb dX5_walker_55 rfl rfl ?_
      obtain ⟨v19, e20, hF⟩ := ob_s hF
      refine m_iaI X hp e20 dX5_walker_56 ?_
      refine lv_iconst (v := 1) hx hb dX5_walker_57 (by decide) ?_
      refine lv_iadd hx hb dX5_walker_58 ?_
      obtain ⟨M21, e22, hF⟩ := ob_s hF
      refine m_iaW X hp e22 dX5_walker_59 (fun H locs hp => ?_)
      refine lv_aload_n hx hb dX5_walker_60 rfl (lv_at hl 0 rfl) ?_
      refine lv_iconst (v := 0) hx hb dX5_walker_61 (by decide) ?_
      obtain ⟨M23, e24, hF⟩ := ob_s hF
      refine m_putW X hp e24 kX5 (Nat.le_of_ble_eq_true rfl) q1463 rfl rfl rfl dX5_walker_62 (fun H locs hp => ?_)
      refine lv_aload_n hx hb dX5_walker_65 rfl (lv_at hl 0 rfl) ?_
      obtain ⟨v25, e26, hF⟩ := ob_s hF
      refine m_getR X hp e26 kX5 (Nat.le_of_ble_eq_true rfl) q1459 dX5_walker_66 ?_
      refine lv_sipush (v := 940) hx hb dX5_walker_69 (by decide) ?_
      obtain ⟨v27, e28, hF⟩ := ob_s hF
      refine m_iaI X hp e28 dX5_walker_72 ?_
      refine lv_iconst (v := 1) hx hb dX5_walker_73 (by decide) ?_
      refine lv_isub hx hb dX5_walker_74 ?_
      cases hF
      exact m_iret X hp dX5_walker_75
    · have hF := if_p c8 hF
      refine lv_iconst (v := -1) hx hb dX5_walker_23 (by decide) ?_
      cases hF
      exact m_iret X hp dX5_walker_24
end
section
variable {l : Launch} {D : va_G} {n0 : Nat} {P : mP} {S : mSh} {M : mMm} {n : Nat} {p : Program} {e : Env} {s : State} {m : MethodId} {args : Array Value} {below : List Frame} {meth : Method} {c : Code}
abbrev Rm_X5_with : Room := { frames := 4, cells := 0, slots := 0, locals := 94 }
def fb_X5_with_90 (S : mSh) (k59 : mMm → Nat → Int32 → Int32 → Int32 → Int32 → Int32 → Int32 → Option (Int32 × mMm)) (M : mMm) (x0 : Nat) (x1 : Int32) (x2 : Int32) (x3 : Int32) (x4 : Int32) (x5 : Int32) (x6 : Int32) (y0 : Int32) (y1 : Int32) (y2 : Nat) : Option (Int32 × mMm) := ob (wA S M y2 100 y1 (.int y0)) fun M29 => nm (x6 + (1 : Int32)) fun v31 => (k59 M29 x0 x1 x2 x3 x4 x5 v31)
theorem b_X5_with_90 {r : Int32} {M' : mMm} (X : mCx D n0 P p m c cX5_with 8 s args yX5_with.cls meth (some .int)) (k59 : mMm → Nat → Int32 → Int32 → Int32 → Int32 → Int32 → Int32 → Option (Int32 × mMm)) (hk59 : ∀ (M : mMm) (x0 : Nat) (x1 : Int32) (x2 : Int32) (x3 : Int32) (x4 : Int32) (x5 : Int32) (x6 : Int32) (H : Heap) (locs : List Loc) (ls : Array Slot), mHp D n0 S M n s H locs → lv_has ls 8 [(0, .ref x0), (1, .int x1), (2, .int x2), (3, .int x3), (4, .int x4), (5, .int x5), (6, .int x6)] → k59 M x0 x1 x2 x3 x4 x5 x6 = some (r, M') → W p l e Rm_X5_with s m args below meth c H locs 0 0 (MQ below (mQ D n0 (some (.int r)) S M' n) args s 0 0 (mA n0)) (F0 m 59 ls [])) : ∀ (M : mMm) (x0 : Nat) (x1 : Int32) (x2 : Int32) (x3 : Int32) (x4 : Int32) (x5 : Int32) (x6 : Int32) (y0 : Int32) (y1 : Int32) (y2 : Nat) (H : Heap) (locs : List Loc) (ls : Array Slot), mHp D n0 S M n s H locs → lv_has ls 8 [(0, .ref x0), (1, .int x1), (2, .int x2), (3, .int x3), (4, .int x4), (5, .int x5), (6, .int x6)] → fb_X5_with_90 S k59 M x0 x1 x2 x3 x4 x5 x6 y0 y1 y2 = some (r, M') → W p l e Rm_X5_with s m args below meth c H locs 0 0 (MQ below (mQ D n0 (some (.int r)) S M' n) args s 0 0 (mA n0)) (F0 m 90 ls [.int y0, .int y1, .ref y2]) := by
  have hx := X.1.1
  have hb := X.1.2.1
  have hown := X.1.2.2.2.1
  have hts := X.1.2.2.2.2
  intro M x0 x1 x2 x3 x4 x5 x6 y0 y1 y2 H locs ls hp hl hF
  unfold fb_X5_with_90 at hF
  obtain ⟨M29, e30, hF⟩ := ob_s hF
  refine m_iaW X hp e30 dX5_with_90 (fun H locs hp => ?_)
  obtain ⟨v31, ev32⟩ : ∃ y : Int32, y = x6 + (1 : Int32) := ⟨_, rfl⟩
  have hF := nm_s hF ev32
  refine lv_iinc (v := v31) (lv' := [(6, .int v31), (0, .ref x0), (1, .int x1), (2, .int x2), (3, .int x3), (4, .int x4), (5, .int x5)]) hx hb dX5_with_91 hl (k := 6) rfl (by rw [ev32]; rfl) (by decide) rfl (fun ls hl => ?_)
  refine lv_goto (tgt := 59) hx hb dX5_with_94 (by decide) ?_
  exact hk59 _ _ _ _ _ _ _ _ _ _ _ hp (lv_sub hl [1, 2, 3, 4, 5, 6, 0] rfl) hF
def fb_X5_with_140 (S : mSh) : Nat → mMm → Nat → Int32 → Int32 → Int32 → Int32 → Option (Int32 × mMm)
  | 0, _, _, _, _, _, _ => none
  | t + 1, M, x0, x3, x5, x6, x7 => (if (12 : Int32) ≤ x7 then some (x6, M) else ob (rR S M x0 6 24) fun v48 => ob (aI S M v48 100 (((x5 * (1728 : Int32)) + ((12 : Int32) * x3)) + x7)) fun v50 => ob (f_X5_plus x6 v50) fun v53 => nm (x7 + (1 : Int32)) fun v54 => (fb_X5_with_140 S t M x0 x3 x5 v53 v54))
theorem b_X5_with_140 {r : Int32} {M' : mMm} (X : mCx D n0 P p m c cX5_with 8 s args yX5_with.cls meth (some .int)) : ∀ t : Nat, ∀ (M : mMm) (x0 : Nat) (x3 : Int32) (x5 : Int32) (x6 : Int32) (x7 : Int32) (H : Heap) (locs : List Loc) (ls : Array Slot), mHp D n0 S M n s H locs → lv_has ls 8 [(0, .ref x0), (3, .int x3), (5, .int x5), (6, .int x6), (7, .int x7)] → fb_X5_with_140 S t M x0 x3 x5 x6 x7 = some (r, M') → W p l e Rm_X5_with s m args below meth c H locs 0 0 (MQ below (mQ D n0 (some (.int r)) S M' n) args s 0 0 (mA n0)) (F0 m 140 ls []) := by
  have hx := X.1.1
  have hb := X.1.2.1
  have hown := X.1.2.2.2.1
  have hts := X.1.2.2.2.2
  intro t
  induction t with
  | zero =>
    intro M x0 x3 x5 x6 x7 H locs ls hp hl hF
    have hF : none = some (r, M') := hF
    cases hF
  | succ t ih =>
    intro M x0 x3 x5 x6 x7 H locs ls hp hl hF
    rw [fb_X5_with_140] at hF
    refine lv_iload hx hb dX5_with_140 (lv_at hl 4 rfl) ?_
    refine lv_bipush (v := 12) hx hb dX5_with_142 (by decide) ?_
    refine lv_icmp_ge (tgt := 179) hx hb dX5_with_144 (by decide) (fun c47 => ?_) (fun c47 => ?_)
    · have hF := if_p c47 hF
      refine lv_iload hx hb dX5_with_179 (lv_at hl 3 rfl) ?_
      cases hF
      exact m_iret X hp dX5_with_181
    · have hF := if_n c47 hF
      refine lv_iload hx hb dX5_with_147 (lv_at hl 3 rfl) ?_
      refine lv_aload_n hx hb dX5_with_149 rfl (lv_at hl 0 rfl) ?_
      obtain ⟨v48, e49, hF⟩ := ob_s hF
      refine m_getR X hp e49 kX5 (Nat.le_of_ble_eq_true rfl) q1483 dX5_with_150 ?_
      refine lv_iload hx hb dX5_with_153 (lv_at hl 2 rfl) ?_
      refine lv_sipush (v := 1728) hx hb dX5_with_155 (by decide) ?_
      refine lv_imul hx hb dX5_with_158 ?_
      refine lv_bipush (v := 12) hx hb dX5_with_159 (by decide) ?_
      refine lv_iload_n hx hb dX5_with_161 rfl (lv_at hl 1 rfl) ?_
      refine lv_imul hx hb dX5_with_162 ?_
      refine lv_iadd hx hb dX5_with_163 ?_
      refine lv_iload hx hb dX5_with_164 (lv_at hl 4 rfl) ?_
      refine lv_iadd hx hb dX5_with_166 ?_
      obtain ⟨v50, e51, hF⟩ := ob_s hF
      refine m_iaI X hp e51 dX5_with_167 ?_
      obtain ⟨v53, e52, hF⟩ := ob_s hF
      refine m_callS (As := [.int x6, .int v50]) (rest := []) X hp (w_X5_plus e52) q1935 q1936 q144 q1937 2 rfl ds_X5_plus ⟨Nat.le_of_ble_eq_true rfl, Nat.le_of_ble_eq_true rfl⟩ hl.1 rfl (Nat.le_of_ble_eq_true rfl) dX5_with_168 ⟨Nat.le_refl 0, Nat.le_refl 0⟩ (fun H locs hp => ?_)
      refine lv_istore (lv' := [(6, .int v53), (0, .ref x0), (3, .int x3), (5, .int x5), (7, .int x7)]) hx hb dX5_with_171 hl (by decide) rfl (fun ls hl => ?_)
      obtain ⟨v54, ev55⟩ : ∃ y : Int32, y = x7 + (1 : Int32) := ⟨_, rfl⟩
      have hF := nm_s hF ev55
      refine lv_iinc (v := v54) (lv' := [(7, .int v54), (6, .int v53), (0, .ref x0), (3, .int x3), (5, .int x5)]) hx hb dX5_with_173 hl (k := 4) rfl (by rw [ev55]; rfl) (by decide) rfl (fun ls hl => ?_)
      refine lv_goto (tgt := 140) hx hb dX5_with_176 (by decide) ?_
      exact ih _ _ _ _ _ _ _ _ _ hp (lv_sub hl [2, 3, 4, 1, 0] rfl) hF
def fb_X5_with_106 (S : mSh) : Nat → mMm → Nat → Int32 → Int32 → Int32 → Int32 → Option (Int32 × mMm)
  | 0, _, _, _, _, _, _ => none
  | t + 1, M, x0, x3, x4, x5, x6 => (if (x4 / (10 : Int32)) ≤ x6 then nm ((0 : Int32)) fun v34 => nm ((0 : Int32)) fun v36 => (fb_X5_with_140 S FU M x0 x3 x5 v34 v36) else gd ((S x0).1 = 6) (ob (f_X5_stepRows S M x0 x5) fun M41 => ob (f_X5_turnRows S M41 x0 x5) fun M44 => nm (x6 + (1 : Int32)) fun v45 => (fb_X5_with_106 S t M44 x0 x3 x4 x5 v45)))
theorem b_X5_with_106 {r : Int32} {M' : mMm} (X : mCx D n0 P p m c cX5_with 8 s args yX5_with.cls meth (some .int)) : ∀ t : Nat, ∀ (M : mMm) (x0 : Nat) (x3 : Int32) (x4 : Int32) (x5 : Int32) (x6 : Int32) (H : Heap) (locs : List Loc) (ls : Array Slot), mHp D n0 S M n s H locs → lv_has ls 8 [(0, .ref x0), (3, .int x3), (4, .int x4), (5, .int x5), (6, .int x6)] → fb_X5_with_106 S t M x0 x3 x4 x5 x6 = some (r, M') → W p l e Rm_X5_with s m args below meth c H locs 0 0 (MQ below (mQ D n0 (some (.int r)) S M' n) args s 0 0 (mA n0)) (F0 m 106 ls []) := by
  have hx := X.1.1
  have hb := X.1.2.1
  have hown := X.1.2.2.2.1
  have hts := X.1.2.2.2.2
  intro t
  induction t with
  | zero =>
    intro M x0 x3 x4 x5 x6 H locs ls hp hl hF
    have hF : none = some (r, M') := hF
    cases hF
  | succ t ih =>
    intro M x0 x3 x4 x5 x6 H locs ls hp hl hF
    rw [fb_X5_with_106] at hF
    refine lv_iload hx hb dX5_with_106 (lv_at hl 4 rfl) ?_
    refine lv_iload hx hb dX5_with_108 (lv_at hl 2 rfl) ?_
    refine lv_bipush (v := 10) hx hb dX5_with_110 (by decide) ?_
    refine lv_idiv hx hb dX5_with_112 (by decide) ?_
    refine lv_icmp_ge (tgt := 134) hx hb dX5_with_113 (by decide) (fun c33 => ?_) (fun c33 => ?_)
    · have hF := if_p c33 hF
      refine lv_iconst (v := 0) hx hb dX5_with_134 (by decide) ?_
      refine lv_topi (fun v34 ev35 => ?_)
      have hF := nm_s hF ev35
      refine lv_istore (lv' := [(6, .int v34), (0, .ref x0), (3, .int x3), (4, .int x4), (5, .int x5)]) hx hb dX5_with_135 hl (by decide) rfl (fun ls hl => ?_)
      refine lv_iconst (v := 0) hx hb dX5_with_137 (by decide) ?_
      refine lv_topi (fun v36 ev37 => ?_)
      have hF := nm_s hF ev37
      refine lv_istore (lv' := [(7, .int v36), (6, .int v34), (0, .ref x0), (3, .int x3), (4, .int x4), (5, .int x5)]) hx hb dX5_with_138 hl (by decide) rfl (fun ls hl => ?_)
      exact b_X5_with_140 X _ _ _ _ _ _ _ _ _ _ hp (lv_sub hl [2, 3, 5, 1, 0] rfl) hF
    · have hF := if_n c33 hF
      refine lv_aload_n hx hb dX5_with_116 rfl (lv_at hl 0 rfl) ?_
      refine lv_iload hx hb dX5_with_117 (lv_at hl 3 rfl) ?_
      obtain ⟨g38, hF⟩ := gd_s hF
      obtain ⟨M41, e39, hF⟩ := ob_s hF
      refine m_callV (As := [.int x5]) (rest := []) X hp (w_X5_stepRows e39) q1939 q1941 qs120 q144 q1942 1 rfl ds_X5_stepRows ⟨Nat.le_of_ble_eq_true rfl, Nat.le_of_ble_eq_true rfl⟩ 6 (T := TX5) (N := 40) rfl (by decide) g38 hl.1 rfl (Nat.le_of_ble_eq_true rfl) dX5_with_119 ⟨Nat.le_refl 0, Nat.le_refl 0⟩ (fun H locs hp => ?_)
      refine lv_aload_n hx hb dX5_with_122 rfl (lv_at hl 0 rfl) ?_
      refine lv_iload hx hb dX5_with_123 (lv_at hl 3 rfl) ?_
      obtain ⟨M44, e42, hF⟩ := ob_s hF
      refine m_callV (As := [.int x5]) (rest := []) X hp (w_X5_turnRows e42) q1931 q1933 qs119 q144 q1934 1 rfl ds_X5_turnRows ⟨Nat.le_of_ble_eq_true rfl, Nat.le_of_ble_eq_true rfl⟩ 6 (T := TX5) (N := 40) rfl (by decide) g38 hl.1 rfl (Nat.le_of_ble_eq_true rfl) dX5_with_125 ⟨Nat.le_refl 0, Nat.le_refl 0⟩ (fun H locs hp => ?_)
      obtain ⟨v45, ev46⟩ : ∃ y : Int32, y = x6 + (1 : Int32) := ⟨_, rfl⟩
      have hF := nm_s hF ev46
      refine lv_iinc (v := v45) (lv' := [(6, .int v45), (0, .ref x0), (3, .int x3), (4, .int x4), (5, .int x5)]) hx hb dX5_with_128 hl (k := 4) rfl (by rw [ev46]; rfl) (by decide) rfl (fun ls hl => ?_)
      refine lv_goto (tgt := 106) hx hb dX5_with_131 (by decide) ?_
      exact ih _ _ _ _ _ _ _ _ _ hp (lv_sub hl [1, 2, 3, 4, 0] rfl) hF
def fb_X5_with_59 (S : mSh) : Nat → mMm → Nat → Int32 → Int32 → Int32 → Int32 → Int32 → Int32 → Option (Int32 × mMm)
  | 0, _, _, _, _, _, _, _, _ => none
  | t + 1, M, x0, x1, x2, x3, x4, x5, x6 => (if (12096 : Int32) ≤ x6 then gd ((S x0).1 = 6) (ob (f_X5_turnRows S M x0 x5) fun M23 => nm ((0 : Int32)) fun v24 => (fb_X5_with_106 S FU M23 x0 x3 x4 x5 v24)) else ob (rR S M x0 6 24) fun v26 => (if x6 = ((3 : Int32) * (((4 : Int32) * x1) + x2)) then (fb_X5_with_90 S (fb_X5_with_59 S t) M x0 x1 x2 x3 x4 x5 x6 (1 : Int32) x6 v26) else (fb_X5_with_90 S (fb_X5_with_59 S t) M x0 x1 x2 x3 x4 x5 x6 (0 : Int32) x6 v26)))
theorem b_X5_with_59 {r : Int32} {M' : mMm} (X : mCx D n0 P p m c cX5_with 8 s args yX5_with.cls meth (some .int)) : ∀ t : Nat, ∀ (M : mMm) (x0 : Nat) (x1 : Int32) (x2 : Int32) (x3 : Int32) (x4 : Int32) (x5 : Int32) (x6 : Int32) (H : Heap) (locs : List Loc) (ls : Array Slot), mHp D n0 S M n s H locs → lv_has ls 8 [(0, .ref x0), (1, .int x1), (2, .int x2), (3, .int x3), (4, .int x4), (5, .int x5), (6, .int x6)] → fb_X5_with_59 S t M x0 x1 x2 x3 x4 x5 x6 = some (r, M') → W p l e Rm_X5_with s m args below meth c H locs 0 0 (MQ below (mQ D n0 (some (.int r)) S M' n) args s 0 0 (mA n0)) (F0 m 59 ls []) := by
  have hx := X.1.1
  have hb := X.1.2.1
  have hown := X.1.2.2.2.1
  have hts := X.1.2.2.2.2
  intro t
  induction t with
  | zero =>
    intro M x0 x1 x2 x3 x4 x5 x6 H locs ls hp hl hF
    have hF : none = some (r, M') := hF
    cases hF
  | succ t ih =>
    intro M x0 x1 x2 x3 x4 x5 x6 H locs ls hp hl hF
    rw [fb_X5_with_59] at hF
    refine lv_iload hx hb dX5_with_59 (lv_at hl 6 rfl) ?_
    refine lv_sipush (v := 12096) hx hb dX5_with_61 (by decide) ?_
    refine lv_icmp_ge (tgt := 97) hx hb dX5_with_64 (by decide) (fun c19 => ?_) (fun c19 => ?_)
    · have hF := if_p c19 hF
      refine lv_aload_n hx hb dX5_with_97 rfl (lv_at hl 0 rfl) ?_
      refine lv_iload hx hb dX5_with_98 (lv_at hl 5 rfl) ?_
      obtain ⟨g20, hF⟩ := gd_s hF
      obtain ⟨M23, e21, hF⟩ := ob_s hF
      refine m_callV (As := [.int x5]) (rest := []) X hp (w_X5_turnRows e21) q1931 q1933 qs119 q144 q1934 1 rfl ds_X5_turnRows ⟨Nat.le_of_ble_eq_true rfl, Nat.le_of_ble_eq_true rfl⟩ 6 (T := TX5) (N := 40) rfl (by decide) g20 hl.1 rfl (Nat.le_of_ble_eq_true rfl) dX5_with_100 ⟨Nat.le_refl 0, Nat.le_refl 0⟩ (fun H locs hp => ?_)
      refine lv_iconst (v := 0) hx hb dX5_with_103 (by decide) ?_
      refine lv_topi (fun v24 ev25 => ?_)
      have hF := nm_s hF ev25
      refine lv_istore (lv' := [(6, .int v24), (0, .ref x0), (1, .int x1), (2, .int x2), (3, .int x3), (4, .int x4), (5, .int x5)]) hx hb dX5_with_104 hl (by decide) rfl (fun ls hl => ?_)
      exact b_X5_with_106 X _ _ _ _ _ _ _ _ _ _ hp (lv_sub hl [1, 4, 5, 6, 0] rfl) hF
    · have hF := if_n c19 hF
      refine lv_aload_n hx hb dX5_with_67 rfl (lv_at hl 0 rfl) ?_
      obtain ⟨v26, e27, hF⟩ := ob_s hF
      refine m_getR X hp e27 kX5 (Nat.le_of_ble_eq_true rfl) q1483 dX5_with_68 ?_
      refine lv_iload hx hb dX5_with_71 (lv_at hl 6 rfl) ?_
      refine lv_iload hx hb dX5_with_73 (lv_at hl 6 rfl) ?_
      refine lv_iconst (v := 3) hx hb dX5_with_75 (by decide) ?_
      refine lv_iconst (v := 4) hx hb dX5_with_76 (by decide) ?_
      refine lv_iload_n hx hb dX5_with_77 rfl (lv_at hl 1 rfl) ?_
      refine lv_imul hx hb dX5_with_78 ?_
      refine lv_iload_n hx hb dX5_with_79 rfl (lv_at hl 2 rfl) ?_
      refine lv_iadd hx hb dX5_with_80 ?_
      refine lv_imul hx hb dX5_with_81 ?_
      refine lv_icmp_ne (tgt := 89) hx hb dX5_with_82 (by decide) (fun c28 => ?_) (fun c28 => ?_)
      · have hF := if_n c28 hF
        refine lv_iconst (v := 0) hx hb dX5_with_89 (by decide) ?_
        exact b_X5_with_90 X _ ih _ _ _ _ _ _ _ _ _ _ _ _ _ _ hp (lv_sub hl [0, 1, 2, 3, 4, 5, 6] rfl) hF
      · have hF := if_p c28 hF
        refine lv_iconst (v := 1) hx hb dX5_with_85 (by decide) ?_
        refine lv_goto (tgt := 90) hx hb dX5_with_86 (by decide) ?_
        exact b_X5_with_90 X _ ih _ _ _ _ _ _ _ _ _ _ _ _ _ _ hp (lv_sub hl [0, 1, 2, 3, 4, 5, 6] rfl) hF
def f_X5_with (S : mSh) (M : mMm) (x0 : Nat) (x1 : Int32) (x2 : Int32) (x3 : Int32) (x4 : Int32) : Option (Int32 × mMm) := gd ((S x0).1 = 6) (ob (f_X5_isGround S M x0 x1) fun v3 => (if v3 = 0 then some ((-1 : Int32), M) else ob (f_X5_isGround S M x0 x3) fun v6 => (if v6 = 0 then some ((-1 : Int32), M) else ob (f_X5_within x2 (0 : Int32) (3 : Int32)) fun v9 => (if v9 = 0 then some ((-1 : Int32), M) else ob (f_X5_within x4 (0 : Int32) (209 : Int32)) fun v12 => (if v12 = 0 then some ((-1 : Int32), M) else (if (x4 - x4 / (10 : Int32) * (10 : Int32)) ≤ (6 : Int32) then nm ((x4 - x4 / (10 : Int32) * (10 : Int32))) fun v15 => nm ((0 : Int32)) fun v17 => (fb_X5_with_59 S FU M x0 x1 x2 x3 x4 v15 v17) else some ((-1 : Int32), M)))))))
theorem w_X5_with {x0 : Nat} {x1 : Int32} {x2 : Int32} {x3 : Int32} {x4 : Int32} {r : Int32} {M' : mMm} (hF : f_X5_with S M x0 x1 x2 x3 x4 = some (r, M')) : mCt l D n0 P yX5_with cX5_with 8 (some .int) 4 94 0 0 [.ref x0, .int x1, .int x2, .int x3, .int x4] S M n (some (.int r)) S M' n := by
  refine m_ofW (by decide) (Nat.le_of_ble_eq_true rfl) (fun p e s m below meth c X hnm hp ls hl => ?_)
  have hx := X.1.1
  have hb := X.1.2.1
  have hown := X.1.2.2.2.1
  have hts := X.1.2.2.2.2
  have hl : lv_has ls 8 [(0, .ref x0), (1, .int x1), (2, .int x2), (3, .int x3), (4, .int x4)] := hl
  unfold f_X5_with at hF
  refine lv_aload_n hx hb dX5_with_0 rfl (lv_at hl 0 rfl) ?_
  refine lv_iload_n hx hb dX5_with_1 rfl (lv_at hl 1 rfl) ?_
  obtain ⟨g1, hF⟩ := gd_s hF
  obtain ⟨v3, e2, hF⟩ := ob_s hF
  refine m_callV (As := [.int x1]) (rest := []) X hp (w_X5_isGround e2) q1907 q1909 qs114 q144 q1910 1 rfl ds_X5_isGround ⟨Nat.le_of_ble_eq_true rfl, Nat.le_of_ble_eq_true rfl⟩ 6 (T := TX5) (N := 40) rfl (by decide) g1 hl.1 rfl (Nat.le_of_ble_eq_true rfl) dX5_with_2 ⟨Nat.le_refl 0, Nat.le_refl 0⟩ (fun H locs hp => ?_)
  refine lv_if_eq (tgt := 47) hx hb dX5_with_5 (by decide) (fun c4 => ?_) (fun c4 => ?_)
  · have hF := if_p c4 hF
    refine lv_iconst (v := -1) hx hb dX5_with_47 (by decide) ?_
    cases hF
    exact m_iret X hp dX5_with_48
  · have hF := if_n c4 hF
    refine lv_aload_n hx hb dX5_with_8 rfl (lv_at hl 0 rfl) ?_
    refine lv_iload_n hx hb dX5_with_9 rfl (lv_at hl 3 rfl) ?_
    obtain ⟨v6, e5, hF⟩ := ob_s hF
    refine m_callV (As := [.int x3]) (rest := []) X hp (w_X5_isGround e5) q1907 q1909 qs114 q144 q1910 1 rfl ds_X5_isGround ⟨Nat.le_of_ble_eq_true rfl, Nat.le_of_ble_eq_true rfl⟩ 6 (T := TX5) (N := 40) rfl (by decide) g1 hl.1 rfl (Nat.le_of_ble_eq_true rfl) dX5_with_10 ⟨Nat.le_refl 0, Nat.le_refl 0⟩ (fun H locs hp => ?_)
    refine lv_if_eq (tgt := 47) hx hb dX5_with_13 (by decide) (fun c7 => ?_) (fun c7 => ?_)
    · have hF := if_p c7 hF
      refine lv_iconst (v := -1) hx hb dX5_with_47 (by decide) ?_
      cases hF
      exact m_iret X hp dX5_with_48
    · have hF := if_n c7 hF
      refine lv_iload_n hx hb dX5_with_16 rfl (lv_at hl 2 rfl) ?_
      refine lv_iconst (v := 0) hx hb dX5_with_17 (by decide) ?_
      refine lv_iconst (v := 3) hx hb dX5_with_18 (by decide) ?_
      obtain ⟨v9, e8, hF⟩ := ob_s hF
      refine m_callS (As := [.int x2, .int (0 : Int32), .int (3 : Int32)]) (rest := []) X hp (w_X5_within e8) q1588 q1589 q144 q1590 3 rfl ds_X5_within ⟨Nat.le_of_ble_eq_true rfl, Nat.le_of_ble_eq_true rfl⟩ hl.1 rfl (Nat.le_of_ble_eq_true rfl) dX5_with_19 ⟨Nat.le_refl 0, Nat.le_refl 0⟩ (fun H locs hp => ?_)
      refine lv_if_eq (tgt := 47) hx hb dX5_with_22 (by decide) (fun c10 => ?_) (fun c10 => ?_)
      · have hF := if_p c10 hF
        refine lv_iconst (v := -1) hx hb dX5_with_47 (by decide) ?_
        cases hF
        exact m_iret X hp dX5_with_48
      · have hF := if_n c10 hF
        refine lv_iload hx hb dX5_with_25 (lv_at hl 4 rfl) ?_
        refine lv_iconst (v := 0) hx hb dX5_with_27 (by decide) ?_
        refine lv_sipush (v := 209) hx hb dX5_with_28 (by decide) ?_
        obtain ⟨v12, e11, hF⟩ := ob_s hF
        refine m_callS (As := [.int x4, .int (0 : Int32), .int (209 : Int32)]) (rest := []) X hp (w_X5_within e11) q1588 q1589 q144 q1590 3 rfl ds_X5_within ⟨Nat.le_of_ble_eq_true rfl, Nat.le_of_ble_eq_true rfl⟩ hl.1 rfl (Nat.le_of_ble_eq_true rfl) dX5_with_31 ⟨Nat.le_refl 0, Nat.le_refl 0⟩ (fun H locs hp => ?_)
        refine lv_if_eq (tgt := 47) hx hb dX5_with_34 (by decide) (fun c13 => ?_) (fun c13 => ?_)
        · have hF := if_p c13 hF
          refine lv_iconst (v := -1) hx hb dX5_with_47 (by decide) ?_
          cases hF
          exact m_iret X hp dX5_with_48
        · have hF := if_n c13 hF
          refine lv_iload hx hb dX5_with_37 (lv_at hl 4 rfl) ?_
          refine lv_bipush (v := 10) hx hb dX5_with_39 (by decide) ?_
          refine lv_irem hx hb dX5_with_41 (by decide) ?_
          refine lv_bipush (v := 6) hx hb dX5_with_42 (by decide) ?_
          refine lv_icmp_le (tgt := 49) hx hb dX5_with_44 (by decide) (fun c14 => ?_) (fun c14 => ?_)
          · have hF := if_p c14 hF
            refine lv_iload hx hb dX5_with_49 (lv_at hl 4 rfl) ?_
            refine lv_bipush (v := 10) hx hb dX5_with_51 (by decide) ?_
            refine lv_irem hx hb dX5_with_53 (by decide) ?_
            refine lv_topi (fun v15 ev16 => ?_)
            have hF := nm_s hF ev16
            refine lv_istore (lv' := [(5, .int v15), (0, .ref x0), (1, .int x1), (2, .int x2), (3, .int x3), (4, .int x4)]) hx hb dX5_with_54 hl (by decide) rfl (fun ls hl => ?_)
            refine lv_iconst (v := 0) hx hb dX5_with_56 (by decide) ?_
            refine lv_topi (fun v17 ev18 => ?_)
            have hF := nm_s hF ev18
            refine lv_istore (lv' := [(6, .int v17), (5, .int v15), (0, .ref x0), (1, .int x1), (2, .int x2), (3, .int x3), (4, .int x4)]) hx hb dX5_with_57 hl (by decide) rfl (fun ls hl => ?_)
            exact b_X5_with_59 X _ _ _ _ _ _ _ _ _ _ _ _ hp (lv_sub hl [2, 3, 4, 5, 6, 1, 0] rfl) hF
          · have hF := if_n c14 hF
            refine lv_iconst (v := -1) hx hb dX5_with_47 (by decide) ?_
            cases hF
            exact m_iret X hp dX5_with_48
end
