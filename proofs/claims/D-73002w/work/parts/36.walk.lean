set_option maxRecDepth 100000
section
variable {l : Launch} {D : va_G} {n0 : Nat} {P : mP} {S : mSh} {M : mMm} {n : Nat} {p : Program} {e : Env} {s : State} {m : MethodId} {args : Array Value} {below : List Frame} {meth : Method} {c : Code}
abbrev Rm_X5_fold : Room := { frames := 0, cells := 0, slots := 0, locals := 0 }
def fb_X5_fold_2 : Nat → Int32 → Option Int32
  | 0, _ => none
  | t + 1, x1 => (if (x1 - x1 / (2 : Int32) * (2 : Int32)) = 0 then nm ((x1 / (2 : Int32))) fun v3 => (fb_X5_fold_2 t v3) else (if (x1 - x1 / (4 : Int32) * (4 : Int32)) = (1 : Int32) then some (1 : Int32) else some (0 : Int32)))
theorem b_X5_fold_2 {r : Int32} (X : mCx D n0 P p m c cX5_fold 2 s args yX5_fold.cls meth (some .int)) : ∀ t : Nat, ∀ (x1 : Int32) (H : Heap) (locs : List Loc) (ls : Array Slot), mHp D n0 S M n s H locs → lv_has ls 2 [(1, .int x1)] → fb_X5_fold_2 t x1 = some r → W p l e Rm_X5_fold s m args below meth c H locs 0 0 (MQ below (mQ D n0 (some (.int r)) S M n) args s 0 0 (mA n0)) (F0 m 2 ls []) := by
  have hx := X.1.1
  have hb := X.1.2.1
  have hown := X.1.2.2.2.1
  have hts := X.1.2.2.2.2
  intro t
  induction t with
  | zero =>
    intro x1 H locs ls hp hl hF
    have hF : none = some r := hF
    cases hF
  | succ t ih =>
    intro x1 H locs ls hp hl hF
    rw [fb_X5_fold_2] at hF
    refine lv_iload_n hx hb dX5_fold_2 rfl (lv_at hl 0 rfl) ?_
    refine lv_iconst (v := 2) hx hb dX5_fold_3 (by decide) ?_
    refine lv_irem hx hb dX5_fold_4 (by decide) ?_
    refine lv_if_ne (tgt := 15) hx hb dX5_fold_5 (by decide) (fun c1 => ?_) (fun c1 => ?_)
    · have hF := if_n c1 hF
      refine lv_iload_n hx hb dX5_fold_15 rfl (lv_at hl 0 rfl) ?_
      refine lv_iconst (v := 4) hx hb dX5_fold_16 (by decide) ?_
      refine lv_irem hx hb dX5_fold_17 (by decide) ?_
      refine lv_iconst (v := 1) hx hb dX5_fold_18 (by decide) ?_
      refine lv_icmp_ne (tgt := 26) hx hb dX5_fold_19 (by decide) (fun c2 => ?_) (fun c2 => ?_)
      · have hF := if_n c2 hF
        refine lv_iconst (v := 0) hx hb dX5_fold_26 (by decide) ?_
        cases hF
        exact m_iret X hp dX5_fold_27
      · have hF := if_p c2 hF
        refine lv_iconst (v := 1) hx hb dX5_fold_22 (by decide) ?_
        refine lv_goto (tgt := 27) hx hb dX5_fold_23 (by decide) ?_
        cases hF
        exact m_iret X hp dX5_fold_27
    · have hF := if_p c1 hF
      refine lv_iload_n hx hb dX5_fold_8 rfl (lv_at hl 0 rfl) ?_
      refine lv_iconst (v := 2) hx hb dX5_fold_9 (by decide) ?_
      refine lv_idiv hx hb dX5_fold_10 (by decide) ?_
      refine lv_topi (fun v3 ev4 => ?_)
      have hF := nm_s hF ev4
      refine lv_istore_n (lv' := [(1, .int v3)]) hx hb dX5_fold_11 rfl hl (by decide) rfl (fun ls hl => ?_)
      refine lv_goto (tgt := 2) hx hb dX5_fold_12 (by decide) ?_
      exact ih _ _ _ _ hp (lv_sub hl [0] rfl) hF
def f_X5_fold (x0 : Int32) : Option Int32 := (fb_X5_fold_2 FU x0)
theorem w_X5_fold {x0 : Int32} {r : Int32} (hF : f_X5_fold x0 = some r) : mCt l D n0 P yX5_fold cX5_fold 2 (some .int) 0 0 0 0 [.int x0] S M n (some (.int r)) S M n := by
  refine m_ofW (by decide) (Nat.le_of_ble_eq_true rfl) (fun p e s m below meth c X hnm hp ls hl => ?_)
  have hx := X.1.1
  have hb := X.1.2.1
  have hown := X.1.2.2.2.1
  have hts := X.1.2.2.2.2
  have hl : lv_has ls 2 [(0, .int x0)] := hl
  unfold f_X5_fold at hF
  refine lv_iload_n hx hb dX5_fold_0 rfl (lv_at hl 0 rfl) ?_
  refine lv_istore_n (lv' := [(1, .int x0), (0, .int x0)]) hx hb dX5_fold_1 rfl hl (by decide) rfl (fun ls hl => ?_)
  exact b_X5_fold_2 X _ _ _ _ _ hp (lv_sub hl [0] rfl) hF
end
section
variable {l : Launch} {D : va_G} {n0 : Nat} {P : mP} {S : mSh} {M : mMm} {n : Nat} {p : Program} {e : Env} {s : State} {m : MethodId} {args : Array Value} {below : List Frame} {meth : Method} {c : Code}
abbrev Rm_X5_folded : Room := { frames := 1, cells := 0, slots := 0, locals := 22 }
def fb_X5_folded_61 : Nat → Int32 → Int32 → Int32 → Int32 → Int32 → Int32 → Option Int32
  | 0, _, _, _, _, _, _ => none
  | t + 1, x1, x3, x4, x5, x6, x7 => (if ((1 : Int32) <<< (x1 &&& 31)) ≤ x7 then (if x3 = (1 : Int32) then some x4 else some x5) else ob (f_X5_fold x7) fun v25 => ob (f_X5_turned x6 v25) fun v27 => ob (f_X5_goesX v27) fun v29 => nm ((x4 + v29)) fun v30 => ob (f_X5_goesY v27) fun v33 => nm ((x5 + v33)) fun v34 => nm (x7 + (1 : Int32)) fun v36 => (fb_X5_folded_61 t x1 x3 v30 v34 v27 v36))
theorem b_X5_folded_61 {r : Int32} (X : mCx D n0 P p m c cX5_folded 8 s args yX5_folded.cls meth (some .int)) : ∀ t : Nat, ∀ (x1 : Int32) (x3 : Int32) (x4 : Int32) (x5 : Int32) (x6 : Int32) (x7 : Int32) (H : Heap) (locs : List Loc) (ls : Array Slot), mHp D n0 S M n s H locs → lv_has ls 8 [(1, .int x1), (3, .int x3), (4, .int x4), (5, .int x5), (6, .int x6), (7, .int x7)] → fb_X5_folded_61 t x1 x3 x4 x5 x6 x7 = some r → W p l e Rm_X5_folded s m args below meth c H locs 0 0 (MQ below (mQ D n0 (some (.int r)) S M n) args s 0 0 (mA n0)) (F0 m 61 ls []) := by
  have hx := X.1.1
  have hb := X.1.2.1
  have hown := X.1.2.2.2.1
  have hts := X.1.2.2.2.2
  intro t
  induction t with
  | zero =>
    intro x1 x3 x4 x5 x6 x7 H locs ls hp hl hF
    have hF : none = some r := hF
    cases hF
  | succ t ih =>
    intro x1 x3 x4 x5 x6 x7 H locs ls hp hl hF
    rw [fb_X5_folded_61] at hF
    refine lv_iload hx hb dX5_folded_61 (lv_at hl 5 rfl) ?_
    refine lv_iconst (v := 1) hx hb dX5_folded_63 (by decide) ?_
    refine lv_iload_n hx hb dX5_folded_64 rfl (lv_at hl 0 rfl) ?_
    refine lv_ishl hx hb dX5_folded_65 ?_
    refine lv_icmp_ge (tgt := 107) hx hb dX5_folded_66 (by decide) (fun c22 => ?_) (fun c22 => ?_)
    · have hF := if_p c22 hF
      refine lv_iload_n hx hb dX5_folded_107 rfl (lv_at hl 1 rfl) ?_
      refine lv_iconst (v := 1) hx hb dX5_folded_108 (by decide) ?_
      refine lv_icmp_ne (tgt := 117) hx hb dX5_folded_109 (by decide) (fun c23 => ?_) (fun c23 => ?_)
      · have hF := if_n c23 hF
        refine lv_iload hx hb dX5_folded_117 (lv_at hl 3 rfl) ?_
        cases hF
        exact m_iret X hp dX5_folded_119
      · have hF := if_p c23 hF
        refine lv_iload hx hb dX5_folded_112 (lv_at hl 2 rfl) ?_
        refine lv_goto (tgt := 119) hx hb dX5_folded_114 (by decide) ?_
        cases hF
        exact m_iret X hp dX5_folded_119
    · have hF := if_n c22 hF
      refine lv_iload hx hb dX5_folded_69 (lv_at hl 4 rfl) ?_
      refine lv_iload hx hb dX5_folded_71 (lv_at hl 5 rfl) ?_
      obtain ⟨v25, e24, hF⟩ := ob_s hF
      refine m_callS (As := [.int x7]) (rest := [.int x6]) X hp (w_X5_fold e24) q2001 q2002 q144 q2003 1 rfl ds_X5_fold ⟨Nat.le_of_ble_eq_true rfl, Nat.le_of_ble_eq_true rfl⟩ hl.1 rfl (Nat.le_of_ble_eq_true rfl) dX5_folded_73 ⟨Nat.le_refl 0, Nat.le_refl 0⟩ (fun H locs hp => ?_)
      obtain ⟨v27, e26, hF⟩ := ob_s hF
      refine m_callS (As := [.int x6, .int v25]) (rest := []) X hp (w_X5_turned e26) q1743 q1744 q144 q1745 2 rfl ds_X5_turned ⟨Nat.le_of_ble_eq_true rfl, Nat.le_of_ble_eq_true rfl⟩ hl.1 rfl (Nat.le_of_ble_eq_true rfl) dX5_folded_76 ⟨Nat.le_refl 0, Nat.le_refl 0⟩ (fun H locs hp => ?_)
      refine lv_istore (lv' := [(6, .int v27), (1, .int x1), (3, .int x3), (4, .int x4), (5, .int x5), (7, .int x7)]) hx hb dX5_folded_79 hl (by decide) rfl (fun ls hl => ?_)
      refine lv_iload hx hb dX5_folded_81 (lv_at hl 3 rfl) ?_
      refine lv_iload hx hb dX5_folded_83 (lv_at hl 0 rfl) ?_
      obtain ⟨v29, e28, hF⟩ := ob_s hF
      refine m_callS (As := [.int v27]) (rest := [.int x4]) X hp (w_X5_goesX e28) q1762 q1763 q144 q1764 1 rfl ds_X5_goesX ⟨Nat.le_of_ble_eq_true rfl, Nat.le_of_ble_eq_true rfl⟩ hl.1 rfl (Nat.le_of_ble_eq_true rfl) dX5_folded_85 ⟨Nat.le_refl 0, Nat.le_refl 0⟩ (fun H locs hp => ?_)
      refine lv_iadd hx hb dX5_folded_88 ?_
      refine lv_topi (fun v30 ev31 => ?_)
      have hF := nm_s hF ev31
      refine lv_istore (lv' := [(4, .int v30), (6, .int v27), (1, .int x1), (3, .int x3), (5, .int x5), (7, .int x7)]) hx hb dX5_folded_89 hl (by decide) rfl (fun ls hl => ?_)
      refine lv_iload hx hb dX5_folded_91 (lv_at hl 4 rfl) ?_
      refine lv_iload hx hb dX5_folded_93 (lv_at hl 1 rfl) ?_
      obtain ⟨v33, e32, hF⟩ := ob_s hF
      refine m_callS (As := [.int v27]) (rest := [.int x5]) X hp (w_X5_goesY e32) q1765 q1766 q144 q1767 1 rfl ds_X5_goesY ⟨Nat.le_of_ble_eq_true rfl, Nat.le_of_ble_eq_true rfl⟩ hl.1 rfl (Nat.le_of_ble_eq_true rfl) dX5_folded_95 ⟨Nat.le_refl 0, Nat.le_refl 0⟩ (fun H locs hp => ?_)
      refine lv_iadd hx hb dX5_folded_98 ?_
      refine lv_topi (fun v34 ev35 => ?_)
      have hF := nm_s hF ev35
      refine lv_istore (lv' := [(5, .int v34), (4, .int v30), (6, .int v27), (1, .int x1), (3, .int x3), (7, .int x7)]) hx hb dX5_folded_99 hl (by decide) rfl (fun ls hl => ?_)
      obtain ⟨v36, ev37⟩ : ∃ y : Int32, y = x7 + (1 : Int32) := ⟨_, rfl⟩
      have hF := nm_s hF ev37
      refine lv_iinc (v := v36) (lv' := [(7, .int v36), (5, .int v34), (4, .int v30), (6, .int v27), (1, .int x1), (3, .int x3)]) hx hb dX5_folded_101 hl (k := 5) rfl (by rw [ev37]; rfl) (by decide) rfl (fun ls hl => ?_)
      refine lv_goto (tgt := 61) hx hb dX5_folded_104 (by decide) ?_
      exact ih _ _ _ _ _ _ _ _ _ hp (lv_sub hl [4, 5, 2, 1, 3, 0] rfl) hF
def fb_X5_folded_40 (x1 : Int32) (x2 : Int32) (x3 : Int32) : Option Int32 := (if x3 = 0 then ob (f_X5_fold x2) fun v21 => some v21 else nm ((0 : Int32)) fun v12 => nm ((1 : Int32)) fun v14 => nm ((0 : Int32)) fun v16 => nm ((1 : Int32)) fun v18 => (fb_X5_folded_61 FU x1 x3 v12 v14 v16 v18))
theorem b_X5_folded_40 {r : Int32} (X : mCx D n0 P p m c cX5_folded 8 s args yX5_folded.cls meth (some .int)) : ∀ (x1 : Int32) (x2 : Int32) (x3 : Int32) (H : Heap) (locs : List Loc) (ls : Array Slot), mHp D n0 S M n s H locs → lv_has ls 8 [(1, .int x1), (2, .int x2), (3, .int x3)] → fb_X5_folded_40 x1 x2 x3 = some r → W p l e Rm_X5_folded s m args below meth c H locs 0 0 (MQ below (mQ D n0 (some (.int r)) S M n) args s 0 0 (mA n0)) (F0 m 40 ls []) := by
  have hx := X.1.1
  have hb := X.1.2.1
  have hown := X.1.2.2.2.1
  have hts := X.1.2.2.2.2
  intro x1 x2 x3 H locs ls hp hl hF
  unfold fb_X5_folded_40 at hF
  refine lv_iload_n hx hb dX5_folded_40 rfl (lv_at hl 2 rfl) ?_
  refine lv_if_ne (tgt := 49) hx hb dX5_folded_41 (by decide) (fun c11 => ?_) (fun c11 => ?_)
  · have hF := if_n c11 hF
    refine lv_iconst (v := 0) hx hb dX5_folded_49 (by decide) ?_
    refine lv_topi (fun v12 ev13 => ?_)
    have hF := nm_s hF ev13
    refine lv_istore (lv' := [(4, .int v12), (1, .int x1), (2, .int x2), (3, .int x3)]) hx hb dX5_folded_50 hl (by decide) rfl (fun ls hl => ?_)
    refine lv_iconst (v := 1) hx hb dX5_folded_52 (by decide) ?_
    refine lv_topi (fun v14 ev15 => ?_)
    have hF := nm_s hF ev15
    refine lv_istore (lv' := [(5, .int v14), (4, .int v12), (1, .int x1), (2, .int x2), (3, .int x3)]) hx hb dX5_folded_53 hl (by decide) rfl (fun ls hl => ?_)
    refine lv_iconst (v := 0) hx hb dX5_folded_55 (by decide) ?_
    refine lv_topi (fun v16 ev17 => ?_)
    have hF := nm_s hF ev17
    refine lv_istore (lv' := [(6, .int v16), (5, .int v14), (4, .int v12), (1, .int x1), (2, .int x2), (3, .int x3)]) hx hb dX5_folded_56 hl (by decide) rfl (fun ls hl => ?_)
    refine lv_iconst (v := 1) hx hb dX5_folded_58 (by decide) ?_
    refine lv_topi (fun v18 ev19 => ?_)
    have hF := nm_s hF ev19
    refine lv_istore (lv' := [(7, .int v18), (6, .int v16), (5, .int v14), (4, .int v12), (1, .int x1), (2, .int x2), (3, .int x3)]) hx hb dX5_folded_59 hl (by decide) rfl (fun ls hl => ?_)
    exact b_X5_folded_61 X _ _ _ _ _ _ _ _ _ _ hp (lv_sub hl [4, 6, 3, 2, 1, 0] rfl) hF
  · have hF := if_p c11 hF
    refine lv_iload_n hx hb dX5_folded_44 rfl (lv_at hl 1 rfl) ?_
    obtain ⟨v21, e20, hF⟩ := ob_s hF
    refine m_callS (As := [.int x2]) (rest := []) X hp (w_X5_fold e20) q2001 q2002 q144 q2003 1 rfl ds_X5_fold ⟨Nat.le_of_ble_eq_true rfl, Nat.le_of_ble_eq_true rfl⟩ hl.1 rfl (Nat.le_of_ble_eq_true rfl) dX5_folded_45 ⟨Nat.le_refl 0, Nat.le_refl 0⟩ (fun H locs hp => ?_)
    cases hF
    exact m_iret X hp dX5_folded_48
def f_X5_folded (x0 : Nat) (x1 : Int32) (x2 : Int32) (x3 : Int32) : Option Int32 := ob (f_X5_within x1 (1 : Int32) (15 : Int32)) fun v2 => (if v2 = 0 then some (-1000 : Int32) else ob (f_X5_within x3 (0 : Int32) (2 : Int32)) fun v5 => (if v5 = 0 then some (-1000 : Int32) else (if x3 = 0 then ob (f_X5_within x2 (1 : Int32) (((1 : Int32) <<< (x1 &&& 31)) - (1 : Int32))) fun v9 => (if v9 = 0 then some (-1000 : Int32) else (fb_X5_folded_40 x1 x2 x3)) else (fb_X5_folded_40 x1 x2 x3))))
theorem w_X5_folded {x0 : Nat} {x1 : Int32} {x2 : Int32} {x3 : Int32} {r : Int32} (hF : f_X5_folded x0 x1 x2 x3 = some r) : mCt l D n0 P yX5_folded cX5_folded 8 (some .int) 1 22 0 0 [.ref x0, .int x1, .int x2, .int x3] S M n (some (.int r)) S M n := by
  refine m_ofW (by decide) (Nat.le_of_ble_eq_true rfl) (fun p e s m below meth c X hnm hp ls hl => ?_)
  have hx := X.1.1
  have hb := X.1.2.1
  have hown := X.1.2.2.2.1
  have hts := X.1.2.2.2.2
  have hl : lv_has ls 8 [(0, .ref x0), (1, .int x1), (2, .int x2), (3, .int x3)] := hl
  unfold f_X5_folded at hF
  refine lv_iload_n hx hb dX5_folded_0 rfl (lv_at hl 1 rfl) ?_
  refine lv_iconst (v := 1) hx hb dX5_folded_1 (by decide) ?_
  refine lv_bipush (v := 15) hx hb dX5_folded_2 (by decide) ?_
  obtain ⟨v2, e1, hF⟩ := ob_s hF
  refine m_callS (As := [.int x1, .int (1 : Int32), .int (15 : Int32)]) (rest := []) X hp (w_X5_within e1) q1588 q1589 q144 q1590 3 rfl ds_X5_within ⟨Nat.le_of_ble_eq_true rfl, Nat.le_of_ble_eq_true rfl⟩ hl.1 rfl (Nat.le_of_ble_eq_true rfl) dX5_folded_4 ⟨Nat.le_refl 0, Nat.le_refl 0⟩ (fun H locs hp => ?_)
  refine lv_if_eq (tgt := 36) hx hb dX5_folded_7 (by decide) (fun c3 => ?_) (fun c3 => ?_)
  · have hF := if_p c3 hF
    refine lv_sipush (v := -1000) hx hb dX5_folded_36 (by decide) ?_
    cases hF
    exact m_iret X hp dX5_folded_39
  · have hF := if_n c3 hF
    refine lv_iload_n hx hb dX5_folded_10 rfl (lv_at hl 3 rfl) ?_
    refine lv_iconst (v := 0) hx hb dX5_folded_11 (by decide) ?_
    refine lv_iconst (v := 2) hx hb dX5_folded_12 (by decide) ?_
    obtain ⟨v5, e4, hF⟩ := ob_s hF
    refine m_callS (As := [.int x3, .int (0 : Int32), .int (2 : Int32)]) (rest := []) X hp (w_X5_within e4) q1588 q1589 q144 q1590 3 rfl ds_X5_within ⟨Nat.le_of_ble_eq_true rfl, Nat.le_of_ble_eq_true rfl⟩ hl.1 rfl (Nat.le_of_ble_eq_true rfl) dX5_folded_13 ⟨Nat.le_refl 0, Nat.le_refl 0⟩ (fun H locs hp => ?_)
    refine lv_if_eq (tgt := 36) hx hb dX5_folded_16 (by decide) (fun c6 => ?_) (fun c6 => ?_)
    · have hF := if_p c6 hF
      refine lv_sipush (v := -1000) hx hb dX5_folded_36 (by decide) ?_
      cases hF
      exact m_iret X hp dX5_folded_39
    · have hF := if_n c6 hF
      refine lv_iload_n hx hb dX5_folded_19 rfl (lv_at hl 3 rfl) ?_
      refine lv_if_ne (tgt := 40) hx hb dX5_folded_20 (by decide) (fun c7 => ?_) (fun c7 => ?_)
      · have hF := if_n c7 hF
        exact b_X5_folded_40 X _ _ _ _ _ _ hp (lv_sub hl [1, 2, 3] rfl) hF
      · have hF := if_p c7 hF
        refine lv_iload_n hx hb dX5_folded_23 rfl (lv_at hl 2 rfl) ?_
        refine lv_iconst (v := 1) hx hb dX5_folded_24 (by decide) ?_
        refine lv_iconst (v := 1) hx hb dX5_folded_25 (by decide) ?_
        refine lv_iload_n hx hb dX5_folded_26 rfl (lv_at hl 1 rfl) ?_
        refine lv_ishl hx hb dX5_folded_27 ?_
        refine lv_iconst (v := 1) hx hb dX5_folded_28 (by decide) ?_
        refine lv_isub hx hb dX5_folded_29 ?_
        obtain ⟨v9, e8, hF⟩ := ob_s hF
        refine m_callS (As := [.int x2, .int (1 : Int32), .int (((1 : Int32) <<< (x1 &&& 31)) - (1 : Int32))]) (rest := []) X hp (w_X5_within e8) q1588 q1589 q144 q1590 3 rfl ds_X5_within ⟨Nat.le_of_ble_eq_true rfl, Nat.le_of_ble_eq_true rfl⟩ hl.1 rfl (Nat.le_of_ble_eq_true rfl) dX5_folded_30 ⟨Nat.le_refl 0, Nat.le_refl 0⟩ (fun H locs hp => ?_)
        refine lv_if_ne (tgt := 40) hx hb dX5_folded_33 (by decide) (fun c10 => ?_) (fun c10 => ?_)
        · have hF := if_n c10 hF
          exact b_X5_folded_40 X _ _ _ _ _ _ hp (lv_sub hl [1, 2, 3] rfl) hF
        · have hF := if_p c10 hF
          refine lv_sipush (v := -1000) hx hb dX5_folded_36 (by decide) ?_
          cases hF
          exact m_iret X hp dX5_folded_39
end
section
variable {l : Launch} {D : va_G} {n0 : Nat} {P : mP} {S : mSh} {M : mMm} {n : Nat} {p : Program} {e : Env} {s : State} {m : MethodId} {args : Array Value} {below : List Frame} {meth : Method} {c : Code}
abbrev Rm_X5_layValues : Room := { frames := 1, cells := 0, slots := 0, locals := 24 }
def fb_X5_layValues_58 (S : mSh) (k20 : mMm → Nat → Int32 → Int32 → Int32 → Int32 → Int32 → Option mMm) (M : mMm) (x0 : Nat) (x1 : Int32) (x2 : Int32) (x3 : Int32) (x5 : Int32) (y0 : Int32) (y1 : Int32) : Option mMm := nm ((y1 ||| y0)) fun v23 => nm (x5 + (1 : Int32)) fun v25 => (k20 M x0 x1 x2 x3 v23 v25)
theorem b_X5_layValues_58 {M' : mMm} (X : mCx D n0 P p m c cX5_layValues 7 s args yX5_layValues.cls meth none) (k20 : mMm → Nat → Int32 → Int32 → Int32 → Int32 → Int32 → Option mMm) (hk20 : ∀ (M : mMm) (x0 : Nat) (x1 : Int32) (x2 : Int32) (x3 : Int32) (x4 : Int32) (x5 : Int32) (H : Heap) (locs : List Loc) (ls : Array Slot), mHp D n0 S M n s H locs → lv_has ls 7 [(0, .ref x0), (1, .int x1), (2, .int x2), (3, .int x3), (4, .int x4), (5, .int x5)] → k20 M x0 x1 x2 x3 x4 x5 = some M' → W p l e Rm_X5_layValues s m args below meth c H locs 0 0 (MQ below (mQ D n0 none S M' n) args s 0 0 (mA n0)) (F0 m 20 ls [])) : ∀ (M : mMm) (x0 : Nat) (x1 : Int32) (x2 : Int32) (x3 : Int32) (x5 : Int32) (y0 : Int32) (y1 : Int32) (H : Heap) (locs : List Loc) (ls : Array Slot), mHp D n0 S M n s H locs → lv_has ls 7 [(0, .ref x0), (1, .int x1), (2, .int x2), (3, .int x3), (5, .int x5)] → fb_X5_layValues_58 S k20 M x0 x1 x2 x3 x5 y0 y1 = some M' → W p l e Rm_X5_layValues s m args below meth c H locs 0 0 (MQ below (mQ D n0 none S M' n) args s 0 0 (mA n0)) (F0 m 58 ls [.int y0, .int y1]) := by
  have hx := X.1.1
  have hb := X.1.2.1
  have hown := X.1.2.2.2.1
  have hts := X.1.2.2.2.2
  intro M x0 x1 x2 x3 x5 y0 y1 H locs ls hp hl hF
  unfold fb_X5_layValues_58 at hF
  refine lv_ior hx hb dX5_layValues_58 ?_
  refine lv_topi (fun v23 ev24 => ?_)
  have hF := nm_s hF ev24
  refine lv_istore (lv' := [(4, .int v23), (0, .ref x0), (1, .int x1), (2, .int x2), (3, .int x3), (5, .int x5)]) hx hb dX5_layValues_59 hl (by decide) rfl (fun ls hl => ?_)
  obtain ⟨v25, ev26⟩ : ∃ y : Int32, y = x5 + (1 : Int32) := ⟨_, rfl⟩
  have hF := nm_s hF ev26
  refine lv_iinc (v := v25) (lv' := [(5, .int v25), (4, .int v23), (0, .ref x0), (1, .int x1), (2, .int x2), (3, .int x3)]) hx hb dX5_layValues_61 hl (k := 5) rfl (by rw [ev26]; rfl) (by decide) rfl (fun ls hl => ?_)
  refine lv_goto (tgt := 20) hx hb dX5_layValues_64 (by decide) ?_
  exact hk20 _ _ _ _ _ _ _ _ _ _ hp (lv_sub hl [2, 3, 4, 5, 1, 0] rfl) hF
def fb_X5_layValues_70 (S : mSh) (k9 : mMm → Nat → Int32 → Int32 → Int32 → Option mMm) : Nat → mMm → Nat → Int32 → Int32 → Int32 → Int32 → Int32 → Option mMm
  | 0, _, _, _, _, _, _, _ => none
  | t + 1, M, x0, x1, x2, x3, x4, x5 => (if ((x4 >>> (x5 &&& 31)) &&& (1 : Int32)) = (1 : Int32) then nm (x5 + (1 : Int32)) fun v34 => (fb_X5_layValues_70 S k9 t M x0 x1 x2 x3 x4 v34) else ob (rR S M x0 6 39) fun v28 => ob (wA S M v28 100 ((((61 : Int32) * x3) + x2) - x3) (.int x5)) fun M30 => nm (x3 + (1 : Int32)) fun v32 => (k9 M30 x0 x1 x2 v32))
theorem b_X5_layValues_70 {M' : mMm} (X : mCx D n0 P p m c cX5_layValues 7 s args yX5_layValues.cls meth none) (k9 : mMm → Nat → Int32 → Int32 → Int32 → Option mMm) (hk9 : ∀ (M : mMm) (x0 : Nat) (x1 : Int32) (x2 : Int32) (x3 : Int32) (H : Heap) (locs : List Loc) (ls : Array Slot), mHp D n0 S M n s H locs → lv_has ls 7 [(0, .ref x0), (1, .int x1), (2, .int x2), (3, .int x3)] → k9 M x0 x1 x2 x3 = some M' → W p l e Rm_X5_layValues s m args below meth c H locs 0 0 (MQ below (mQ D n0 none S M' n) args s 0 0 (mA n0)) (F0 m 9 ls [])) : ∀ t : Nat, ∀ (M : mMm) (x0 : Nat) (x1 : Int32) (x2 : Int32) (x3 : Int32) (x4 : Int32) (x5 : Int32) (H : Heap) (locs : List Loc) (ls : Array Slot), mHp D n0 S M n s H locs → lv_has ls 7 [(0, .ref x0), (1, .int x1), (2, .int x2), (3, .int x3), (4, .int x4), (5, .int x5)] → fb_X5_layValues_70 S k9 t M x0 x1 x2 x3 x4 x5 = some M' → W p l e Rm_X5_layValues s m args below meth c H locs 0 0 (MQ below (mQ D n0 none S M' n) args s 0 0 (mA n0)) (F0 m 70 ls []) := by
  have hx := X.1.1
  have hb := X.1.2.1
  have hown := X.1.2.2.2.1
  have hts := X.1.2.2.2.2
  intro t
  induction t with
  | zero =>
    intro M x0 x1 x2 x3 x4 x5 H locs ls hp hl hF
    have hF : none = some M' := hF
    cases hF
  | succ t ih =>
    intro M x0 x1 x2 x3 x4 x5 H locs ls hp hl hF
    rw [fb_X5_layValues_70] at hF
    refine lv_iload hx hb dX5_layValues_70 (lv_at hl 4 rfl) ?_
    refine lv_iload hx hb dX5_layValues_72 (lv_at hl 5 rfl) ?_
    refine lv_ishr hx hb dX5_layValues_74 ?_
    refine lv_iconst (v := 1) hx hb dX5_layValues_75 (by decide) ?_
    refine lv_iand hx hb dX5_layValues_76 ?_
    refine lv_iconst (v := 1) hx hb dX5_layValues_77 (by decide) ?_
    refine lv_icmp_ne (tgt := 87) hx hb dX5_layValues_78 (by decide) (fun c27 => ?_) (fun c27 => ?_)
    · have hF := if_n c27 hF
      refine lv_aload_n hx hb dX5_layValues_87 rfl (lv_at hl 0 rfl) ?_
      obtain ⟨v28, e29, hF⟩ := ob_s hF
      refine m_getR X hp e29 kX5 (Nat.le_of_ble_eq_true rfl) q1498 dX5_layValues_88 ?_
      refine lv_bipush (v := 61) hx hb dX5_layValues_91 (by decide) ?_
      refine lv_iload_n hx hb dX5_layValues_93 rfl (lv_at hl 3 rfl) ?_
      refine lv_imul hx hb dX5_layValues_94 ?_
      refine lv_iload_n hx hb dX5_layValues_95 rfl (lv_at hl 2 rfl) ?_
      refine lv_iadd hx hb dX5_layValues_96 ?_
      refine lv_iload_n hx hb dX5_layValues_97 rfl (lv_at hl 3 rfl) ?_
      refine lv_isub hx hb dX5_layValues_98 ?_
      refine lv_iload hx hb dX5_layValues_99 (lv_at hl 5 rfl) ?_
      obtain ⟨M30, e31, hF⟩ := ob_s hF
      refine m_iaW X hp e31 dX5_layValues_101 (fun H locs hp => ?_)
      obtain ⟨v32, ev33⟩ : ∃ y : Int32, y = x3 + (1 : Int32) := ⟨_, rfl⟩
      have hF := nm_s hF ev33
      refine lv_iinc (v := v32) (lv' := [(3, .int v32), (0, .ref x0), (1, .int x1), (2, .int x2), (4, .int x4), (5, .int x5)]) hx hb dX5_layValues_102 hl (k := 3) rfl (by rw [ev33]; rfl) (by decide) rfl (fun ls hl => ?_)
      refine lv_goto (tgt := 9) hx hb dX5_layValues_105 (by decide) ?_
      exact hk9 _ _ _ _ _ _ _ _ hp (lv_sub hl [1, 2, 3, 0] rfl) hF
    · have hF := if_p c27 hF
      obtain ⟨v34, ev35⟩ : ∃ y : Int32, y = x5 + (1 : Int32) := ⟨_, rfl⟩
      have hF := nm_s hF ev35
      refine lv_iinc (v := v34) (lv' := [(5, .int v34), (0, .ref x0), (1, .int x1), (2, .int x2), (3, .int x3), (4, .int x4)]) hx hb dX5_layValues_81 hl (k := 5) rfl (by rw [ev35]; rfl) (by decide) rfl (fun ls hl => ?_)
      refine lv_goto (tgt := 70) hx hb dX5_layValues_84 (by decide) ?_
      exact ih _ _ _ _ _ _ _ _ _ _ hp (lv_sub hl [1, 2, 3, 4, 5, 0] rfl) hF
def fb_X5_layValues_20 (S : mSh) (k9 : mMm → Nat → Int32 → Int32 → Int32 → Option mMm) : Nat → mMm → Nat → Int32 → Int32 → Int32 → Int32 → Int32 → Option mMm
  | 0, _, _, _, _, _, _, _ => none
  | t + 1, M, x0, x1, x2, x3, x4, x5 => (if (4 : Int32) ≤ x5 then nm ((0 : Int32)) fun v14 => (fb_X5_layValues_70 S k9 FU M x0 x1 x2 x3 x4 v14) else ob (f_X5_bend (x2 - x3) x3 x5) fun v17 => (if v17 = (-1 : Int32) then (fb_X5_layValues_58 S (fb_X5_layValues_20 S k9 t) M x0 x1 x2 x3 x5 (0 : Int32) x4) else ob (rR S M x0 6 39) fun v19 => ob (aI S M v19 100 v17) fun v21 => (fb_X5_layValues_58 S (fb_X5_layValues_20 S k9 t) M x0 x1 x2 x3 x5 ((1 : Int32) <<< (v21 &&& 31)) x4)))
theorem b_X5_layValues_20 {M' : mMm} (X : mCx D n0 P p m c cX5_layValues 7 s args yX5_layValues.cls meth none) (k9 : mMm → Nat → Int32 → Int32 → Int32 → Option mMm) (hk9 : ∀ (M : mMm) (x0 : Nat) (x1 : Int32) (x2 : Int32) (x3 : Int32) (H : Heap) (locs : List Loc) (ls : Array Slot), mHp D n0 S M n s H locs → lv_has ls 7 [(0, .ref x0), (1, .int x1), (2, .int x2), (3, .int x3)] → k9 M x0 x1 x2 x3 = some M' → W p l e Rm_X5_layValues s m args below meth c H locs 0 0 (MQ below (mQ D n0 none S M' n) args s 0 0 (mA n0)) (F0 m 9 ls [])) : ∀ t : Nat, ∀ (M : mMm) (x0 : Nat) (x1 : Int32) (x2 : Int32) (x3 : Int32) (x4 : Int32) (x5 : Int32) (H : Heap) (locs : List Loc) (ls : Array Slot), mHp D n0 S M n s H locs → lv_has ls 7 [(0, .ref x0), (1, .int x1), (2, .int x2), (3, .int x3), (4, .int x4), (5, .int x5)] → fb_X5_layValues_20 S k9 t M x0 x1 x2 x3 x4 x5 = some M' → W p l e Rm_X5_layValues s m args below meth c H locs 0 0 (MQ below (mQ D n0 none S M' n) args s 0 0 (mA n0)) (F0 m 20 ls []) := by
  have hx := X.1.1
  have hb := X.1.2.1
  have hown := X.1.2.2.2.1
  have hts := X.1.2.2.2.2
  intro t
  induction t with
  | zero =>
    intro M x0 x1 x2 x3 x4 x5 H locs ls hp hl hF
    have hF : none = some M' := hF
    cases hF
  | succ t ih =>
    intro M x0 x1 x2 x3 x4 x5 H locs ls hp hl hF
    rw [fb_X5_layValues_20] at hF
    refine lv_iload hx hb dX5_layValues_20 (lv_at hl 5 rfl) ?_
    refine lv_iconst (v := 4) hx hb dX5_layValues_22 (by decide) ?_
    refine lv_icmp_ge (tgt := 67) hx hb dX5_layValues_23 (by decide) (fun c13 => ?_) (fun c13 => ?_)
    · have hF := if_p c13 hF
      refine lv_iconst (v := 0) hx hb dX5_layValues_67 (by decide) ?_
      refine lv_topi (fun v14 ev15 => ?_)
      have hF := nm_s hF ev15
      refine lv_istore (lv' := [(5, .int v14), (0, .ref x0), (1, .int x1), (2, .int x2), (3, .int x3), (4, .int x4)]) hx hb dX5_layValues_68 hl (by decide) rfl (fun ls hl => ?_)
      exact b_X5_layValues_70 X _ hk9 _ _ _ _ _ _ _ _ _ _ _ hp (lv_sub hl [1, 2, 3, 4, 5, 0] rfl) hF
    · have hF := if_n c13 hF
      refine lv_iload_n hx hb dX5_layValues_26 rfl (lv_at hl 2 rfl) ?_
      refine lv_iload_n hx hb dX5_layValues_27 rfl (lv_at hl 3 rfl) ?_
      refine lv_isub hx hb dX5_layValues_28 ?_
      refine lv_iload_n hx hb dX5_layValues_29 rfl (lv_at hl 3 rfl) ?_
      refine lv_iload hx hb dX5_layValues_30 (lv_at hl 5 rfl) ?_
      obtain ⟨v17, e16, hF⟩ := ob_s hF
      refine m_callS (As := [.int (x2 - x3), .int x3, .int x5]) (rest := []) X hp (w_X5_bend e16) q2048 q2049 q144 q2050 3 rfl ds_X5_bend ⟨Nat.le_of_ble_eq_true rfl, Nat.le_of_ble_eq_true rfl⟩ hl.1 rfl (Nat.le_of_ble_eq_true rfl) dX5_layValues_32 ⟨Nat.le_refl 0, Nat.le_refl 0⟩ (fun H locs hp => ?_)
      refine lv_istore (lv' := [(6, .int v17), (0, .ref x0), (1, .int x1), (2, .int x2), (3, .int x3), (4, .int x4), (5, .int x5)]) hx hb dX5_layValues_35 hl (by decide) rfl (fun ls hl => ?_)
      refine lv_iload hx hb dX5_layValues_37 (lv_at hl 5 rfl) ?_
      refine lv_iload hx hb dX5_layValues_39 (lv_at hl 0 rfl) ?_
      refine lv_iconst (v := -1) hx hb dX5_layValues_41 (by decide) ?_
      refine lv_icmp_ne (tgt := 49) hx hb dX5_layValues_42 (by decide) (fun c18 => ?_) (fun c18 => ?_)
      · have hF := if_n c18 hF
        refine lv_iconst (v := 1) hx hb dX5_layValues_49 (by decide) ?_
        refine lv_aload_n hx hb dX5_layValues_50 rfl (lv_at hl 1 rfl) ?_
        obtain ⟨v19, e20, hF⟩ := ob_s hF
        refine m_getR X hp e20 kX5 (Nat.le_of_ble_eq_true rfl) q1498 dX5_layValues_51 ?_
        refine lv_iload hx hb dX5_layValues_54 (lv_at hl 0 rfl) ?_
        obtain ⟨v21, e22, hF⟩ := ob_s hF
        refine m_iaI X hp e22 dX5_layValues_56 ?_
        refine lv_ishl hx hb dX5_layValues_57 ?_
        exact b_X5_layValues_58 X _ ih _ _ _ _ _ _ _ _ _ _ _ hp (lv_sub hl [1, 2, 3, 4, 6] rfl) hF
      · have hF := if_p c18 hF
        refine lv_iconst (v := 0) hx hb dX5_layValues_45 (by decide) ?_
        refine lv_goto (tgt := 58) hx hb dX5_layValues_46 (by decide) ?_
        exact b_X5_layValues_58 X _ ih _ _ _ _ _ _ _ _ _ _ _ hp (lv_sub hl [1, 2, 3, 4, 6] rfl) hF
def fb_X5_layValues_9 (S : mSh) (k2 : mMm → Nat → Int32 → Int32 → Option mMm) : Nat → mMm → Nat → Int32 → Int32 → Int32 → Option mMm
  | 0, _, _, _, _, _ => none
  | t + 1, M, x0, x1, x2, x3 => (if x2 < x3 then nm (x2 + (1 : Int32)) fun v7 => (k2 M x0 x1 v7) else nm ((0 : Int32)) fun v9 => nm ((0 : Int32)) fun v11 => (fb_X5_layValues_20 S (fb_X5_layValues_9 S k2 t) FU M x0 x1 x2 x3 v9 v11))
theorem b_X5_layValues_9 {M' : mMm} (X : mCx D n0 P p m c cX5_layValues 7 s args yX5_layValues.cls meth none) (k2 : mMm → Nat → Int32 → Int32 → Option mMm) (hk2 : ∀ (M : mMm) (x0 : Nat) (x1 : Int32) (x2 : Int32) (H : Heap) (locs : List Loc) (ls : Array Slot), mHp D n0 S M n s H locs → lv_has ls 7 [(0, .ref x0), (1, .int x1), (2, .int x2)] → k2 M x0 x1 x2 = some M' → W p l e Rm_X5_layValues s m args below meth c H locs 0 0 (MQ below (mQ D n0 none S M' n) args s 0 0 (mA n0)) (F0 m 2 ls [])) : ∀ t : Nat, ∀ (M : mMm) (x0 : Nat) (x1 : Int32) (x2 : Int32) (x3 : Int32) (H : Heap) (locs : List Loc) (ls : Array Slot), mHp D n0 S M n s H locs → lv_has ls 7 [(0, .ref x0), (1, .int x1), (2, .int x2), (3, .int x3)] → fb_X5_layValues_9 S k2 t M x0 x1 x2 x3 = some M' → W p l e Rm_X5_layValues s m args below meth c H locs 0 0 (MQ below (mQ D n0 none S M' n) args s 0 0 (mA n0)) (F0 m 9 ls []) := by
  have hx := X.1.1
  have hb := X.1.2.1
  have hown := X.1.2.2.2.1
  have hts := X.1.2.2.2.2
  intro t
  induction t with
  | zero =>
    intro M x0 x1 x2 x3 H locs ls hp hl hF
    have hF : none = some M' := hF
    cases hF
  | succ t ih =>
    intro M x0 x1 x2 x3 H locs ls hp hl hF
    rw [fb_X5_layValues_9] at hF
    refine lv_iload_n hx hb dX5_layValues_9 rfl (lv_at hl 3 rfl) ?_
    refine lv_iload_n hx hb dX5_layValues_10 rfl (lv_at hl 2 rfl) ?_
    refine lv_icmp_gt (tgt := 108) hx hb dX5_layValues_11 (by decide) (fun c6 => ?_) (fun c6 => ?_)
    · have hF := if_p c6 hF
      obtain ⟨v7, ev8⟩ : ∃ y : Int32, y = x2 + (1 : Int32) := ⟨_, rfl⟩
      have hF := nm_s hF ev8
      refine lv_iinc (v := v7) (lv' := [(2, .int v7), (0, .ref x0), (1, .int x1), (3, .int x3)]) hx hb dX5_layValues_108 hl (k := 2) rfl (by rw [ev8]; rfl) (by decide) rfl (fun ls hl => ?_)
      refine lv_goto (tgt := 2) hx hb dX5_layValues_111 (by decide) ?_
      exact hk2 _ _ _ _ _ _ _ hp (lv_sub hl [1, 2, 0] rfl) hF
    · have hF := if_n c6 hF
      refine lv_iconst (v := 0) hx hb dX5_layValues_14 (by decide) ?_
      refine lv_topi (fun v9 ev10 => ?_)
      have hF := nm_s hF ev10
      refine lv_istore (lv' := [(4, .int v9), (0, .ref x0), (1, .int x1), (2, .int x2), (3, .int x3)]) hx hb dX5_layValues_15 hl (by decide) rfl (fun ls hl => ?_)
      refine lv_iconst (v := 0) hx hb dX5_layValues_17 (by decide) ?_
      refine lv_topi (fun v11 ev12 => ?_)
      have hF := nm_s hF ev12
      refine lv_istore (lv' := [(5, .int v11), (4, .int v9), (0, .ref x0), (1, .int x1), (2, .int x2), (3, .int x3)]) hx hb dX5_layValues_18 hl (by decide) rfl (fun ls hl => ?_)
      exact b_X5_layValues_20 X _ ih _ _ _ _ _ _ _ _ _ _ _ hp (lv_sub hl [2, 3, 4, 5, 1, 0] rfl) hF
def fb_X5_layValues_2 (S : mSh) : Nat → mMm → Nat → Int32 → Int32 → Option mMm
  | 0, _, _, _, _ => none
  | t + 1, M, x0, x1, x2 => (if x1 < x2 then some M else nm ((0 : Int32)) fun v4 => (fb_X5_layValues_9 S (fb_X5_layValues_2 S t) FU M x0 x1 x2 v4))
theorem b_X5_layValues_2 {M' : mMm} (X : mCx D n0 P p m c cX5_layValues 7 s args yX5_layValues.cls meth none) : ∀ t : Nat, ∀ (M : mMm) (x0 : Nat) (x1 : Int32) (x2 : Int32) (H : Heap) (locs : List Loc) (ls : Array Slot), mHp D n0 S M n s H locs → lv_has ls 7 [(0, .ref x0), (1, .int x1), (2, .int x2)] → fb_X5_layValues_2 S t M x0 x1 x2 = some M' → W p l e Rm_X5_layValues s m args below meth c H locs 0 0 (MQ below (mQ D n0 none S M' n) args s 0 0 (mA n0)) (F0 m 2 ls []) := by
  have hx := X.1.1
  have hb := X.1.2.1
  have hown := X.1.2.2.2.1
  have hts := X.1.2.2.2.2
  intro t
  induction t with
  | zero =>
    intro M x0 x1 x2 H locs ls hp hl hF
    have hF : none = some M' := hF
    cases hF
  | succ t ih =>
    intro M x0 x1 x2 H locs ls hp hl hF
    rw [fb_X5_layValues_2] at hF
    refine lv_iload_n hx hb dX5_layValues_2 rfl (lv_at hl 2 rfl) ?_
    refine lv_iload_n hx hb dX5_layValues_3 rfl (lv_at hl 1 rfl) ?_
    refine lv_icmp_gt (tgt := 114) hx hb dX5_layValues_4 (by decide) (fun c3 => ?_) (fun c3 => ?_)
    · have hF := if_p c3 hF
      cases hF
      exact m_vret X hp dX5_layValues_114
    · have hF := if_n c3 hF
      refine lv_iconst (v := 0) hx hb dX5_layValues_7 (by decide) ?_
      refine lv_topi (fun v4 ev5 => ?_)
      have hF := nm_s hF ev5
      refine lv_istore_n (lv' := [(3, .int v4), (0, .ref x0), (1, .int x1), (2, .int x2)]) hx hb dX5_layValues_8 rfl hl (by decide) rfl (fun ls hl => ?_)
      exact b_X5_layValues_9 X _ ih _ _ _ _ _ _ _ _ _ hp (lv_sub hl [1, 2, 3, 0] rfl) hF
def f_X5_layValues (S : mSh) (M : mMm) (x0 : Nat) (x1 : Int32) : Option mMm := nm ((0 : Int32)) fun v1 => (fb_X5_layValues_2 S FU M x0 x1 v1)
theorem w_X5_layValues {x0 : Nat} {x1 : Int32} {M' : mMm} (hF : f_X5_layValues S M x0 x1 = some M') : mCt l D n0 P yX5_layValues cX5_layValues 7 none 1 24 0 0 [.ref x0, .int x1] S M n none S M' n := by
  refine m_ofW (by decide) (Nat.le_of_ble_eq_true rfl) (fun p e s m below meth c X hnm hp ls hl => ?_)
  have hx := X.1.1
  have hb := X.1.2.1
  have hown := X.1.2.2.2.1
  have hts := X.1.2.2.2.2
  have hl : lv_has ls 7 [(0, .ref x0), (1, .int x1)] := hl
  unfold f_X5_layValues at hF
  refine lv_iconst (v := 0) hx hb dX5_layValues_0 (by decide) ?_
  refine lv_topi (fun v1 ev2 => ?_)
  have hF := nm_s hF ev2
  refine lv_istore_n (lv' := [(2, .int v1), (0, .ref x0), (1, .int x1)]) hx hb dX5_layValues_1 rfl hl (by decide) rfl (fun ls hl => ?_)
  exact b_X5_layValues_2 X _ _ _ _ _ _ _ _ hp (lv_sub hl [1, 2, 0] rfl) hF
end
section
variable {l : Launch} {D : va_G} {n0 : Nat} {P : mP} {S : mSh} {M : mMm} {n : Nat} {p : Program} {e : Env} {s : State} {m : MethodId} {args : Array Value} {below : List Frame} {meth : Method} {c : Code}
abbrev Rm_X5_game : Room := { frames := 2, cells := 0, slots := 0, locals := 50 }
def fb_X5_game_108 (S : mSh) (k60 : mMm → Nat → Int32 → Int32 → Int32 → Int32 → Option (Int32 × mMm)) (M : mMm) (x0 : Nat) (x1 : Int32) (x2 : Int32) (x4 : Int32) (x5 : Int32) : Option (Int32 × mMm) := nm (x5 + (1 : Int32)) fun v34 => (k60 M x0 x1 x2 x4 v34)
theorem b_X5_game_108 {r : Int32} {M' : mMm} (X : mCx D n0 P p m c cX5_game 7 s args yX5_game.cls meth (some .int)) (k60 : mMm → Nat → Int32 → Int32 → Int32 → Int32 → Option (Int32 × mMm)) (hk60 : ∀ (M : mMm) (x0 : Nat) (x1 : Int32) (x2 : Int32) (x4 : Int32) (x5 : Int32) (H : Heap) (locs : List Loc) (ls : Array Slot), mHp D n0 S M n s H locs → lv_has ls 7 [(0, .ref x0), (1, .int x1), (2, .int x2), (4, .int x4), (5, .int x5)] → k60 M x0 x1 x2 x4 x5 = some (r, M') → W p l e Rm_X5_game s m args below meth c H locs 0 0 (MQ below (mQ D n0 (some (.int r)) S M' n) args s 0 0 (mA n0)) (F0 m 60 ls [])) : ∀ (M : mMm) (x0 : Nat) (x1 : Int32) (x2 : Int32) (x4 : Int32) (x5 : Int32) (H : Heap) (locs : List Loc) (ls : Array Slot), mHp D n0 S M n s H locs → lv_has ls 7 [(0, .ref x0), (1, .int x1), (2, .int x2), (4, .int x4), (5, .int x5)] → fb_X5_game_108 S k60 M x0 x1 x2 x4 x5 = some (r, M') → W p l e Rm_X5_game s m args below meth c H locs 0 0 (MQ below (mQ D n0 (some (.int r)) S M' n) args s 0 0 (mA n0)) (F0 m 108 ls []) := by
  have hx := X.1.1
  have hb := X.1.2.1
  have hown := X.1.2.2.2.1
  have hts := X.1.2.2.2.2
  intro M x0 x1 x2 x4 x5 H locs ls hp hl hF
  unfold fb_X5_game_108 at hF
  obtain ⟨v34, ev35⟩ : ∃ y : Int32, y = x5 + (1 : Int32) := ⟨_, rfl⟩
  have hF := nm_s hF ev35
  refine lv_iinc (v := v34) (lv' := [(5, .int v34), (0, .ref x0), (1, .int x1), (2, .int x2), (4, .int x4)]) hx hb dX5_game_108 hl (k := 4) rfl (by rw [ev35]; rfl) (by decide) rfl (fun ls hl => ?_)
  refine lv_goto (tgt := 60) hx hb dX5_game_111 (by decide) ?_
  exact hk60 _ _ _ _ _ _ _ _ _ hp (lv_sub hl [1, 2, 3, 4, 0] rfl) hF
def fb_X5_game_104 (S : mSh) (k60 : mMm → Nat → Int32 → Int32 → Int32 → Int32 → Option (Int32 × mMm)) (M : mMm) (x0 : Nat) (x1 : Int32) (x2 : Int32) (x5 : Int32) (x6 : Int32) : Option (Int32 × mMm) := (fb_X5_game_108 S k60 M x0 x1 x2 x6 x5)
theorem b_X5_game_104 {r : Int32} {M' : mMm} (X : mCx D n0 P p m c cX5_game 7 s args yX5_game.cls meth (some .int)) (k60 : mMm → Nat → Int32 → Int32 → Int32 → Int32 → Option (Int32 × mMm)) (hk60 : ∀ (M : mMm) (x0 : Nat) (x1 : Int32) (x2 : Int32) (x4 : Int32) (x5 : Int32) (H : Heap) (locs : List Loc) (ls : Array Slot), mHp D n0 S M n s H locs → lv_has ls 7 [(0, .ref x0), (1, .int x1), (2, .int x2), (4, .int x4), (5, .int x5)] → k60 M x0 x1 x2 x4 x5 = some (r, M') → W p l e Rm_X5_game s m args below meth c H locs 0 0 (MQ below (mQ D n0 (some (.int r)) S M' n) args s 0 0 (mA n0)) (F0 m 60 ls [])) : ∀ (M : mMm) (x0 : Nat) (x1 : Int32) (x2 : Int32) (x5 : Int32) (x6 : Int32) (H : Heap) (locs : List Loc) (ls : Array Slot), mHp D n0 S M n s H locs → lv_has ls 7 [(0, .ref x0), (1, .int x1), (2, .int x2), (5, .int x5), (6, .int x6)] → fb_X5_game_104 S k60 M x0 x1 x2 x5 x6 = some (r, M') → W p l e Rm_X5_game s m args below meth c H locs 0 0 (MQ below (mQ D n0 (some (.int r)) S M' n) args s 0 0 (mA n0)) (F0 m 104 ls []) := by
  have hx := X.1.1
  have hb := X.1.2.1
  have hown := X.1.2.2.2.1
  have hts := X.1.2.2.2.2
  intro M x0 x1 x2 x5 x6 H locs ls hp hl hF
  unfold fb_X5_game_104 at hF
  refine lv_iload hx hb dX5_game_104 (lv_at hl 4 rfl) ?_
  refine lv_istore (lv' := [(4, .int x6), (0, .ref x0), (1, .int x1), (2, .int x2), (5, .int x5), (6, .int x6)]) hx hb dX5_game_106 hl (by decide) rfl (fun ls hl => ?_)
  exact b_X5_game_108 X _ hk60 _ _ _ _ _ _ _ _ _ hp (lv_sub hl [1, 2, 3, 0, 4] rfl) hF
def fb_X5_game_60 (S : mSh) : Nat → mMm → Nat → Int32 → Int32 → Int32 → Int32 → Option (Int32 × mMm)
  | 0, _, _, _, _, _, _ => none
  | t + 1, M, x0, x1, x2, x4, x5 => (if (4 : Int32) ≤ x5 then some (x4, M) else ob (f_X5_bend x1 x2 x5) fun v25 => (if v25 = (-1 : Int32) then (fb_X5_game_108 S (fb_X5_game_60 S t) M x0 x1 x2 x4 x5) else ob (rR S M x0 6 39) fun v27 => ob (aI S M v27 100 v25) fun v29 => (if v29 = 0 then (if x4 = (-1 : Int32) then (fb_X5_game_104 S (fb_X5_game_60 S t) M x0 x1 x2 x5 v25) else (if x4 ≤ v25 then (fb_X5_game_108 S (fb_X5_game_60 S t) M x0 x1 x2 x4 x5) else (fb_X5_game_104 S (fb_X5_game_60 S t) M x0 x1 x2 x5 v25))) else (fb_X5_game_108 S (fb_X5_game_60 S t) M x0 x1 x2 x4 x5))))
theorem b_X5_game_60 {r : Int32} {M' : mMm} (X : mCx D n0 P p m c cX5_game 7 s args yX5_game.cls meth (some .int)) : ∀ t : Nat, ∀ (M : mMm) (x0 : Nat) (x1 : Int32) (x2 : Int32) (x4 : Int32) (x5 : Int32) (H : Heap) (locs : List Loc) (ls : Array Slot), mHp D n0 S M n s H locs → lv_has ls 7 [(0, .ref x0), (1, .int x1), (2, .int x2), (4, .int x4), (5, .int x5)] → fb_X5_game_60 S t M x0 x1 x2 x4 x5 = some (r, M') → W p l e Rm_X5_game s m args below meth c H locs 0 0 (MQ below (mQ D n0 (some (.int r)) S M' n) args s 0 0 (mA n0)) (F0 m 60 ls []) := by
  have hx := X.1.1
  have hb := X.1.2.1
  have hown := X.1.2.2.2.1
  have hts := X.1.2.2.2.2
  intro t
  induction t with
  | zero =>
    intro M x0 x1 x2 x4 x5 H locs ls hp hl hF
    have hF : none = some (r, M') := hF
    cases hF
  | succ t ih =>
    intro M x0 x1 x2 x4 x5 H locs ls hp hl hF
    rw [fb_X5_game_60] at hF
    refine lv_iload hx hb dX5_game_60 (lv_at hl 4 rfl) ?_
    refine lv_iconst (v := 4) hx hb dX5_game_62 (by decide) ?_
    refine lv_icmp_ge (tgt := 114) hx hb dX5_game_63 (by decide) (fun c23 => ?_) (fun c23 => ?_)
    · have hF := if_p c23 hF
      refine lv_iload hx hb dX5_game_114 (lv_at hl 3 rfl) ?_
      cases hF
      exact m_iret X hp dX5_game_116
    · have hF := if_n c23 hF
      refine lv_iload_n hx hb dX5_game_66 rfl (lv_at hl 1 rfl) ?_
      refine lv_iload_n hx hb dX5_game_67 rfl (lv_at hl 2 rfl) ?_
      refine lv_iload hx hb dX5_game_68 (lv_at hl 4 rfl) ?_
      obtain ⟨v25, e24, hF⟩ := ob_s hF
      refine m_callS (As := [.int x1, .int x2, .int x5]) (rest := []) X hp (w_X5_bend e24) q2048 q2049 q144 q2050 3 rfl ds_X5_bend ⟨Nat.le_of_ble_eq_true rfl, Nat.le_of_ble_eq_true rfl⟩ hl.1 rfl (Nat.le_of_ble_eq_true rfl) dX5_game_70 ⟨Nat.le_refl 0, Nat.le_refl 0⟩ (fun H locs hp => ?_)
      refine lv_istore (lv' := [(6, .int v25), (0, .ref x0), (1, .int x1), (2, .int x2), (4, .int x4), (5, .int x5)]) hx hb dX5_game_73 hl (by decide) rfl (fun ls hl => ?_)
      refine lv_iload hx hb dX5_game_75 (lv_at hl 0 rfl) ?_
      refine lv_iconst (v := -1) hx hb dX5_game_77 (by decide) ?_
      refine lv_icmp_eq (tgt := 108) hx hb dX5_game_78 (by decide) (fun c26 => ?_) (fun c26 => ?_)
      · have hF := if_p c26 hF
        exact b_X5_game_108 X _ ih _ _ _ _ _ _ _ _ _ hp (lv_sub hl [1, 2, 3, 4, 5] rfl) hF
      · have hF := if_n c26 hF
        refine lv_aload_n hx hb dX5_game_81 rfl (lv_at hl 1 rfl) ?_
        obtain ⟨v27, e28, hF⟩ := ob_s hF
        refine m_getR X hp e28 kX5 (Nat.le_of_ble_eq_true rfl) q1498 dX5_game_82 ?_
        refine lv_iload hx hb dX5_game_85 (lv_at hl 0 rfl) ?_
        obtain ⟨v29, e30, hF⟩ := ob_s hF
        refine m_iaI X hp e30 dX5_game_87 ?_
        refine lv_if_ne (tgt := 108) hx hb dX5_game_88 (by decide) (fun c31 => ?_) (fun c31 => ?_)
        · have hF := if_n c31 hF
          exact b_X5_game_108 X _ ih _ _ _ _ _ _ _ _ _ hp (lv_sub hl [1, 2, 3, 4, 5] rfl) hF
        · have hF := if_p c31 hF
          refine lv_iload hx hb dX5_game_91 (lv_at hl 4 rfl) ?_
          refine lv_iconst (v := -1) hx hb dX5_game_93 (by decide) ?_
          refine lv_icmp_eq (tgt := 104) hx hb dX5_game_94 (by decide) (fun c32 => ?_) (fun c32 => ?_)
          · have hF := if_p c32 hF
            exact b_X5_game_104 X _ ih _ _ _ _ _ _ _ _ _ hp (lv_sub hl [1, 2, 3, 5, 0] rfl) hF
          · have hF := if_n c32 hF
            refine lv_iload hx hb dX5_game_97 (lv_at hl 0 rfl) ?_
            refine lv_iload hx hb dX5_game_99 (lv_at hl 4 rfl) ?_
            refine lv_icmp_ge (tgt := 108) hx hb dX5_game_101 (by decide) (fun c33 => ?_) (fun c33 => ?_)
            · have hF := if_p c33 hF
              exact b_X5_game_108 X _ ih _ _ _ _ _ _ _ _ _ hp (lv_sub hl [1, 2, 3, 4, 5] rfl) hF
            · have hF := if_n c33 hF
              exact b_X5_game_104 X _ ih _ _ _ _ _ _ _ _ _ hp (lv_sub hl [1, 2, 3, 5, 0] rfl) hF
def f_X5_game (S : mSh) (M : mMm) (x0 : Nat) (x1 : Int32) (x2 : Int32) (x3 : Int32) : Option (Int32 × mMm) := ob (f_X5_within x1 (0 : Int32) (30 : Int32)) fun v2 => (if v2 = 0 then some ((-1 : Int32), M) else ob (f_X5_within x2 (0 : Int32) (30 : Int32)) fun v5 => (if v5 = 0 then some ((-1 : Int32), M) else ob (f_X5_within x3 (0 : Int32) (1 : Int32)) fun v8 => (if v8 = 0 then some ((-1 : Int32), M) else gd ((S x0).1 = 6) (ob (f_X5_layValues S M x0 (x1 + x2)) fun M13 => (if x3 = 0 then ob (rR S M13 x0 6 39) fun v19 => ob (aI S M13 v19 100 (((61 : Int32) * x2) + x1)) fun v21 => some (v21, M13) else nm ((-1 : Int32)) fun v15 => nm ((0 : Int32)) fun v17 => (fb_X5_game_60 S FU M13 x0 x1 x2 v15 v17))))))
theorem w_X5_game {x0 : Nat} {x1 : Int32} {x2 : Int32} {x3 : Int32} {r : Int32} {M' : mMm} (hF : f_X5_game S M x0 x1 x2 x3 = some (r, M')) : mCt l D n0 P yX5_game cX5_game 7 (some .int) 2 50 0 0 [.ref x0, .int x1, .int x2, .int x3] S M n (some (.int r)) S M' n := by
  refine m_ofW (by decide) (Nat.le_of_ble_eq_true rfl) (fun p e s m below meth c X hnm hp ls hl => ?_)
  have hx := X.1.1
  have hb := X.1.2.1
  have hown := X.1.2.2.2.1
  have hts := X.1.2.2.2.2
  have hl : lv_has ls 7 [(0, .ref x0), (1, .int x1), (2, .int x2), (3, .int x3)] := hl
  unfold f_X5_game at hF
  refine lv_iload_n hx hb dX5_game_0 rfl (lv_at hl 1 rfl) ?_
  refine lv_iconst (v := 0) hx hb dX5_game_1 (by decide) ?_
  refine lv_bipush (v := 30) hx hb dX5_game_2 (by decide) ?_
  obtain ⟨v2, e1, hF⟩ := ob_s hF
  refine m_callS (As := [.int x1, .int (0 : Int32), .int (30 : Int32)]) (rest := []) X hp (w_X5_within e1) q1588 q1589 q144 q1590 3 rfl ds_X5_within ⟨Nat.le_of_ble_eq_true rfl, Nat.le_of_ble_eq_true rfl⟩ hl.1 rfl (Nat.le_of_ble_eq_true rfl) dX5_game_4 ⟨Nat.le_refl 0, Nat.le_refl 0⟩ (fun H locs hp => ?_)
  refine lv_if_eq (tgt := 29) hx hb dX5_game_7 (by decide) (fun c3 => ?_) (fun c3 => ?_)
  · have hF := if_p c3 hF
    refine lv_iconst (v := -1) hx hb dX5_game_29 (by decide) ?_
    cases hF
    exact m_iret X hp dX5_game_30
  · have hF := if_n c3 hF
    refine lv_iload_n hx hb dX5_game_10 rfl (lv_at hl 2 rfl) ?_
    refine lv_iconst (v := 0) hx hb dX5_game_11 (by decide) ?_
    refine lv_bipush (v := 30) hx hb dX5_game_12 (by decide) ?_
    obtain ⟨v5, e4, hF⟩ := ob_s hF
    refine m_callS (As := [.int x2, .int (0 : Int32), .int (30 : Int32)]) (rest := []) X hp (w_X5_within e4) q1588 q1589 q144 q1590 3 rfl ds_X5_within ⟨Nat.le_of_ble_eq_true rfl, Nat.le_of_ble_eq_true rfl⟩ hl.1 rfl (Nat.le_of_ble_eq_true rfl) dX5_game_14 ⟨Nat.le_refl 0, Nat.le_refl 0⟩ (fun H locs hp => ?_)
    refine lv_if_eq (tgt := 29) hx hb dX5_game_17 (by decide) (fun c6 => ?_) (fun c6 => ?_)
    · have hF := if_p c6 hF
      refine lv_iconst (v := -1) hx hb dX5_game_29 (by decide) ?_
      cases hF
      exact m_iret X hp dX5_game_30
    · have hF := if_n c6 hF
      refine lv_iload_n hx hb dX5_game_20 rfl (lv_at hl 3 rfl) ?_
      refine lv_iconst (v := 0) hx hb dX5_game_21 (by decide) ?_
      refine lv_iconst (v := 1) hx hb dX5_game_22 (by decide) ?_
      obtain ⟨v8, e7, hF⟩ := ob_s hF
      refine m_callS (As := [.int x3, .int (0 : Int32), .int (1 : Int32)]) (rest := []) X hp (w_X5_within e7) q1588 q1589 q144 q1590 3 rfl ds_X5_within ⟨Nat.le_of_ble_eq_true rfl, Nat.le_of_ble_eq_true rfl⟩ hl.1 rfl (Nat.le_of_ble_eq_true rfl) dX5_game_23 ⟨Nat.le_refl 0, Nat.le_refl 0⟩ (fun H locs hp => ?_)
      refine lv_if_ne (tgt := 31) hx hb dX5_game_26 (by decide) (fun c9 => ?_) (fun c9 => ?_)
      · have hF := if_n c9 hF
        refine lv_aload_n hx hb dX5_game_31 rfl (lv_at hl 0 rfl) ?_
        refine lv_iload_n hx hb dX5_game_32 rfl (lv_at hl 1 rfl) ?_
        refine lv_iload_n hx hb dX5_game_33 rfl (lv_at hl 2 rfl) ?_
        refine lv_iadd hx hb dX5_game_34 ?_
        obtain ⟨g10, hF⟩ := gd_s hF
        obtain ⟨M13, e11, hF⟩ := ob_s hF
        refine m_callV (As := [.int (x1 + x2)]) (rest := []) X hp (w_X5_layValues e11) q2044 q2046 qs130 q144 q2047 1 rfl ds_X5_layValues ⟨Nat.le_of_ble_eq_true rfl, Nat.le_of_ble_eq_true rfl⟩ 6 (T := TX5) (N := 40) rfl (by decide) g10 hl.1 rfl (Nat.le_of_ble_eq_true rfl) dX5_game_35 ⟨Nat.le_refl 0, Nat.le_refl 0⟩ (fun H locs hp => ?_)
        refine lv_iload_n hx hb dX5_game_38 rfl (lv_at hl 3 rfl) ?_
        refine lv_if_ne (tgt := 54) hx hb dX5_game_39 (by decide) (fun c14 => ?_) (fun c14 => ?_)
        · have hF := if_n c14 hF
          refine lv_iconst (v := -1) hx hb dX5_game_54 (by decide) ?_
          refine lv_topi (fun v15 ev16 => ?_)
          have hF := nm_s hF ev16
          refine lv_istore (lv' := [(4, .int v15), (0, .ref x0), (1, .int x1), (2, .int x2), (3, .int x3)]) hx hb dX5_game_55 hl (by decide) rfl (fun ls hl => ?_)
          refine lv_iconst (v := 0) hx hb dX5_game_57 (by decide) ?_
          refine lv_topi (fun v17 ev18 => ?_)
          have hF := nm_s hF ev18
          refine lv_istore (lv' := [(5, .int v17), (4, .int v15), (0, .ref x0), (1, .int x1), (2, .int x2), (3, .int x3)]) hx hb dX5_game_58 hl (by decide) rfl (fun ls hl => ?_)
          exact b_X5_game_60 X _ _ _ _ _ _ _ _ _ _ hp (lv_sub hl [2, 3, 4, 1, 0] rfl) hF
        · have hF := if_p c14 hF
          refine lv_aload_n hx hb dX5_game_42 rfl (lv_at hl 0 rfl) ?_
          obtain ⟨v19, e20, hF⟩ := ob_s hF
          refine m_getR X hp e20 kX5 (Nat.le_of_ble_eq_true rfl) q1498 dX5_game_43 ?_
          refine lv_bipush (v := 61) hx hb dX5_game_46 (by decide) ?_
          refine lv_iload_n hx hb dX5_game_48 rfl (lv_at hl 2 rfl) ?_
          refine lv_imul hx hb dX5_game_49 ?_
          refine lv_iload_n hx hb dX5_game_50 rfl (lv_at hl 1 rfl) ?_
          refine lv_iadd hx hb dX5_game_51 ?_
          obtain ⟨v21, e22, hF⟩ := ob_s hF
          refine m_iaI X hp e22 dX5_game_52 ?_
          cases hF
          exact m_iret X hp dX5_game_53
      · have hF := if_p c9 hF
        refine lv_iconst (v := -1) hx hb dX5_game_29 (by decide) ?_
        cases hF
        exact m_iret X hp dX5_game_30
end
section
variable {l : Launch} {D : va_G} {n0 : Nat} {P : mP} {S : mSh} {M : mMm} {n : Nat} {p : Program} {e : Env} {s : State} {m : MethodId} {args : Array Value} {below : List Frame} {meth : Method} {c : Code}
abbrev Rm_X5_gap : Room := { frames := 1, cells := 0, slots := 0, locals := 22 }
def f_X5_gap (S : mSh) (M : mMm) (x0 : Nat) (x1 : Int32) (x2 : Int32) : Option (Int32 × mMm) := (if x1 = (-1 : Int32) then ob (rR S M x0 6 0) fun v39 => ob (wA S M v39 100 (2408 : Int32) (.int (0 : Int32))) fun M41 => some ((0 : Int32), M41) else ob (f_X5_within x1 (0 : Int32) (7 : Int32)) fun v3 => (if v3 = 0 then some ((-1 : Int32), M) else ob (f_X5_within x2 (0 : Int32) (30 : Int32)) fun v6 => (if v6 = 0 then some ((-1 : Int32), M) else ob (rR S M x0 6 0) fun v8 => ob (aI S M v8 100 (2408 : Int32)) fun v10 => (if v10 = (8 : Int32) then some ((-1 : Int32), M) else ob (rR S M x0 6 0) fun v13 => ob (rR S M x0 6 0) fun v15 => ob (aI S M v15 100 (2408 : Int32)) fun v17 => ob (wA S M v13 100 ((2409 : Int32) + ((2 : Int32) * v17)) (.int x1)) fun M19 => ob (rR S M19 x0 6 0) fun v21 => ob (rR S M19 x0 6 0) fun v23 => ob (aI S M19 v23 100 (2408 : Int32)) fun v25 => ob (wA S M19 v21 100 ((2410 : Int32) + ((2 : Int32) * v25)) (.int x2)) fun M27 => ob (rR S M27 x0 6 0) fun v29 => ob (aI S M27 v29 100 (2408 : Int32)) fun v31 => ob (wA S M27 v29 100 (2408 : Int32) (.int (v31 + (1 : Int32)))) fun M33 => ob (rR S M33 x0 6 0) fun v35 => ob (aI S M33 v35 100 (2408 : Int32)) fun v37 => some (v37, M33)))))
theorem w_X5_gap {x0 : Nat} {x1 : Int32} {x2 : Int32} {r : Int32} {M' : mMm} (hF : f_X5_gap S M x0 x1 x2 = some (r, M')) : mCt l D n0 P yX5_gap cX5_gap 3 (some .int) 1 22 0 0 [.ref x0, .int x1, .int x2] S M n (some (.int r)) S M' n := by
  refine m_ofW (by decide) (Nat.le_of_ble_eq_true rfl) (fun p e s m below meth c X hnm hp ls hl => ?_)
  have hx := X.1.1
  have hb := X.1.2.1
  have hown := X.1.2.2.2.1
  have hts := X.1.2.2.2.2
  have hl : lv_has ls 3 [(0, .ref x0), (1, .int x1), (2, .int x2)] := hl
  unfold f_X5_gap at hF
  refine lv_iload_n hx hb dX5_gap_0 rfl (lv_at hl 1 rfl) ?_
  refine lv_iconst (v := -1) hx hb dX5_gap_1 (by decide) ?_
  refine lv_icmp_ne (tgt := 16) hx hb dX5_gap_2 (by decide) (fun c1 => ?_) (fun c1 => ?_)
  · have hF := if_n c1 hF
    refine lv_iload_n hx hb dX5_gap_16 rfl (lv_at hl 1 rfl) ?_
    refine lv_iconst (v := 0) hx hb dX5_gap_17 (by decide) ?_
    refine lv_bipush (v := 7) hx hb dX5_gap_18 (by decide) ?_
    obtain ⟨v3, e2, hF⟩ := ob_s hF
    refine m_callS (As := [.int x1, .int (0 : Int32), .int (7 : Int32)]) (rest := []) X hp (w_X5_within e2) q1588 q1589 q144 q1590 3 rfl ds_X5_within ⟨Nat.le_of_ble_eq_true rfl, Nat.le_of_ble_eq_true rfl⟩ hl.1 rfl (Nat.le_of_ble_eq_true rfl) dX5_gap_20 ⟨Nat.le_refl 0, Nat.le_refl 0⟩ (fun H locs hp => ?_)
    refine lv_if_eq (tgt := 49) hx hb dX5_gap_23 (by decide) (fun c4 => ?_) (fun c4 => ?_)
    · have hF := if_p c4 hF
      refine lv_iconst (v := -1) hx hb dX5_gap_49 (by decide) ?_
      cases hF
      exact m_iret X hp dX5_gap_50
    · have hF := if_n c4 hF
      refine lv_iload_n hx hb dX5_gap_26 rfl (lv_at hl 2 rfl) ?_
      refine lv_iconst (v := 0) hx hb dX5_gap_27 (by decide) ?_
      refine lv_bipush (v := 30) hx hb dX5_gap_28 (by decide) ?_
      obtain ⟨v6, e5, hF⟩ := ob_s hF
      refine m_callS (As := [.int x2, .int (0 : Int32), .int (30 : Int32)]) (rest := []) X hp (w_X5_within e5) q1588 q1589 q144 q1590 3 rfl ds_X5_within ⟨Nat.le_of_ble_eq_true rfl, Nat.le_of_ble_eq_true rfl⟩ hl.1 rfl (Nat.le_of_ble_eq_true rfl) dX5_gap_30 ⟨Nat.le_refl 0, Nat.le_refl 0⟩ (fun H locs hp => ?_)
      refine lv_if_eq (tgt := 49) hx hb dX5_gap_33 (by decide) (fun c7 => ?_) (fun c7 => ?_)
      · have hF := if_p c7 hF
        refine lv_iconst (v := -1) hx hb dX5_gap_49 (by decide) ?_
        cases hF
        exact m_iret X hp dX5_gap_50
      · have hF := if_n c7 hF
        refine lv_aload_n hx hb dX5_gap_36 rfl (lv_at hl 0 rfl) ?_
        obtain ⟨v8, e9, hF⟩ := ob_s hF
        refine m_getR X hp e9 kX5 (Nat.le_of_ble_eq_true rfl) q1459 dX5_gap_37 ?_
        refine lv_sipush (v := 2408) hx hb dX5_gap_40 (by decide) ?_
        obtain ⟨v10, e11, hF⟩ := ob_s hF
        refine m_iaI X hp e11 dX5_gap_43 ?_
        refine lv_bipush (v := 8) hx hb dX5_gap_44 (by decide) ?_
        refine lv_icmp_ne (tgt := 51) hx hb dX5_gap_46 (by decide) (fun c12 => ?_) (fun c12 => ?_)
        · have hF := if_n c12 hF
          refine lv_aload_n hx hb dX5_gap_51 rfl (lv_at hl 0 rfl) ?_
          obtain ⟨v13, e14, hF⟩ := ob_s hF
          refine m_getR X hp e14 kX5 (Nat.le_of_ble_eq_true rfl) q1459 dX5_gap_52 ?_
          refine lv_sipush (v := 2409) hx hb dX5_gap_55 (by decide) ?_
          refine lv_iconst (v := 2) hx hb dX5_gap_58 (by decide) ?_
          refine lv_aload_n hx hb dX5_gap_59 rfl (lv_at hl 0 rfl) ?_
          obtain ⟨v15, e16, hF⟩ := ob_s hF
          refine m_getR X hp e16 kX5 (Nat.le_of_ble_eq_true rfl) q1459 dX5_gap_60 ?_
          refine lv_sipush (v := 2408) hx hb dX5_gap_63 (by decide) ?_
          obtain ⟨v17, e18, hF⟩ := ob_s hF
          refine m_iaI X hp e18 dX5_gap_66 ?_
          refine lv_imul hx hb dX5_gap_67 ?_
          refine lv_iadd hx hb dX5_gap_68 ?_
          refine lv_iload_n hx hb dX5_gap_69 rfl (lv_at hl 1 rfl) ?_
          obtain ⟨M19, e20, hF⟩ := ob_s hF
          refine m_iaW X hp e20 dX5_gap_70 (fun H locs hp => ?_)
          refine lv_aload_n hx hb dX5_gap_71 rfl (lv_at hl 0 rfl) ?_
          obtain ⟨v21, e22, hF⟩ := ob_s hF
          refine m_getR X hp e22 kX5 (Nat.le_of_ble_eq_true rfl) q1459 dX5_gap_72 ?_
          refine lv_sipush (v := 2410) hx hb dX5_gap_75 (by decide) ?_
          refine lv_iconst (v := 2) hx hb dX5_gap_78 (by decide) ?_
          refine lv_aload_n hx hb dX5_gap_79 rfl (lv_at hl 0 rfl) ?_
          obtain ⟨v23, e24, hF⟩ := ob_s hF
          refine m_getR X hp e24 kX5 (Nat.le_of_ble_eq_true rfl) q1459 dX5_gap_80 ?_
          refine lv_sipush (v := 2408) hx hb dX5_gap_83 (by decide) ?_
          obtain ⟨v25, e26, hF⟩ := ob_s hF
          refine m_iaI X hp e26 dX5_gap_86 ?_
          refine lv_imul hx hb dX5_gap_87 ?_
          refine lv_iadd hx hb dX5_gap_88 ?_
          refine lv_iload_n hx hb dX5_gap_89 rfl (lv_at hl 2 rfl) ?_
          obtain ⟨M27, e28, hF⟩ := ob_s hF
          refine m_iaW X hp e28 dX5_gap_90 (fun H locs hp => ?_)
          refine lv_aload_n hx hb dX5_gap_91 rfl (lv_at hl 0 rfl) ?_
          obtain ⟨v29, e30, hF⟩ := ob_s hF
          refine m_getR X hp e30 kX5 (Nat.le_of_ble_eq_true rfl) q1459 dX5_gap_92 ?_
          refine lv_sipush (v := 2408) hx hb dX5_gap_95 (by decide) ?_
          refine lv_dup2_11 hx hb dX5_gap_98 rfl rfl ?_
          obtain ⟨v31, e32, hF⟩ := ob_s hF
          refine m_iaI X hp e32 dX5_gap_99 ?_
          refine lv_iconst (v := 1) hx hb dX5_gap_100 (by decide) ?_
          refine lv_iadd hx hb dX5_gap_101 ?_
          obtain ⟨M33, e34, hF⟩ := ob_s hF
          refine m_iaW X hp e34 dX5_gap_102 (fun H locs hp => ?_)
          refine lv_aload_n hx hb dX5_gap_103 rfl (lv_at hl 0 rfl) ?_
          obtain ⟨v35, e36, hF⟩ := ob_s hF
          refine m_getR X hp e36 kX5 (Nat.le_of_ble_eq_true rfl) q1459 dX5_gap_104 ?_
          refine lv_sipush (v := 2408) hx hb dX5_gap_107 (by decide) ?_
          obtain ⟨v37, e38, hF⟩ := ob_s hF
          refine m_iaI X hp e38 dX5_gap_110 ?_
          cases hF
          exact m_iret X hp dX5_gap_111
        · have hF := if_p c12 hF
          refine lv_iconst (v := -1) hx hb dX5_gap_49 (by decide) ?_
          cases hF
          exact m_iret X hp dX5_gap_50
  · have hF := if_p c1 hF
    refine lv_aload_n hx hb dX5_gap_5 rfl (lv_at hl 0 rfl) ?_
    obtain ⟨v39, e40, hF⟩ := ob_s hF
    refine m_getR X hp e40 kX5 (Nat.le_of_ble_eq_true rfl) q1459 dX5_gap_6 ?_
    refine lv_sipush (v := 2408) hx hb dX5_gap_9 (by decide) ?_
    refine lv_iconst (v := 0) hx hb dX5_gap_12 (by decide) ?_
    obtain ⟨M41, e42, hF⟩ := ob_s hF
    refine m_iaW X hp e42 dX5_gap_13 (fun H locs hp => ?_)
    refine lv_iconst (v := 0) hx hb dX5_gap_14 (by decide) ?_
    cases hF
    exact m_iret X hp dX5_gap_15
end
section
variable {l : Launch} {D : va_G} {n0 : Nat} {P : mP} {S : mSh} {M : mMm} {n : Nat} {p : Program} {e : Env} {s : State} {m : MethodId} {args : Array Value} {below : List Frame} {meth : Method} {c : Code}
abbrev Rm_X5_nextWord : Room := { frames := 1, cells := 0, slots := 0, locals := 22 }
def fb_X5_nextWord_20 (S : mSh) (M : mMm) : Nat → Nat → Int32 → Int32 → Int32 → Option Int32
  | 0, _, _, _, _ => none
  | t + 1, x0, x2, x3, x4 => ob (rR S M x0 6 1) fun v8 => ob (aI S M v8 100 x2) fun v10 => (if v10 ≤ x4 then some (3 : Int32) else ob (rR S M x0 6 1) fun v13 => ob (aI S M v13 100 ((x2 + (2 : Int32)) + ((2 : Int32) * x4))) fun v15 => (if v15 ≤ x3 then ob (rR S M x0 6 1) fun v18 => ob (aI S M v18 100 ((x2 + (2 : Int32)) + ((2 : Int32) * x4))) fun v20 => nm ((x3 - v20)) fun v22 => nm (x4 + (1 : Int32)) fun v24 => (fb_X5_nextWord_20 S M t x0 x2 v22 v24) else ob (rR S M x0 6 1) fun v26 => ob (aI S M v26 100 ((x2 + (1 : Int32)) + ((2 : Int32) * x4))) fun v28 => some v28))
theorem b_X5_nextWord_20 {r : Int32} (X : mCx D n0 P p m c cX5_nextWord 5 s args yX5_nextWord.cls meth (some .int)) : ∀ t : Nat, ∀ (x0 : Nat) (x2 : Int32) (x3 : Int32) (x4 : Int32) (H : Heap) (locs : List Loc) (ls : Array Slot), mHp D n0 S M n s H locs → lv_has ls 5 [(0, .ref x0), (2, .int x2), (3, .int x3), (4, .int x4)] → fb_X5_nextWord_20 S M t x0 x2 x3 x4 = some r → W p l e Rm_X5_nextWord s m args below meth c H locs 0 0 (MQ below (mQ D n0 (some (.int r)) S M n) args s 0 0 (mA n0)) (F0 m 20 ls []) := by
  have hx := X.1.1
  have hb := X.1.2.1
  have hown := X.1.2.2.2.1
  have hts := X.1.2.2.2.2
  intro t
  induction t with
  | zero =>
    intro x0 x2 x3 x4 H locs ls hp hl hF
    have hF : none = some r := hF
    cases hF
  | succ t ih =>
    intro x0 x2 x3 x4 H locs ls hp hl hF
    rw [fb_X5_nextWord_20] at hF
    refine lv_iload hx hb dX5_nextWord_20 (lv_at hl 3 rfl) ?_
    refine lv_aload_n hx hb dX5_nextWord_22 rfl (lv_at hl 0 rfl) ?_
    obtain ⟨v8, e9, hF⟩ := ob_s hF
    refine m_getR X hp e9 kX5 (Nat.le_of_ble_eq_true rfl) q1460 dX5_nextWord_23 ?_
    refine lv_iload_n hx hb dX5_nextWord_26 rfl (lv_at hl 1 rfl) ?_
    obtain ⟨v10, e11, hF⟩ := ob_s hF
    refine m_iaI X hp e11 dX5_nextWord_27 ?_
    refine lv_icmp_ge (tgt := 84) hx hb dX5_nextWord_28 (by decide) (fun c12 => ?_) (fun c12 => ?_)
    · have hF := if_p c12 hF
      refine lv_iconst (v := 3) hx hb dX5_nextWord_84 (by decide) ?_
      cases hF
      exact m_iret X hp dX5_nextWord_85
    · have hF := if_n c12 hF
      refine lv_iload_n hx hb dX5_nextWord_31 rfl (lv_at hl 2 rfl) ?_
      refine lv_aload_n hx hb dX5_nextWord_32 rfl (lv_at hl 0 rfl) ?_
      obtain ⟨v13, e14, hF⟩ := ob_s hF
      refine m_getR X hp e14 kX5 (Nat.le_of_ble_eq_true rfl) q1460 dX5_nextWord_33 ?_
      refine lv_iload_n hx hb dX5_nextWord_36 rfl (lv_at hl 1 rfl) ?_
      refine lv_iconst (v := 2) hx hb dX5_nextWord_37 (by decide) ?_
      refine lv_iadd hx hb dX5_nextWord_38 ?_
      refine lv_iconst (v := 2) hx hb dX5_nextWord_39 (by decide) ?_
      refine lv_iload hx hb dX5_nextWord_40 (lv_at hl 3 rfl) ?_
      refine lv_imul hx hb dX5_nextWord_42 ?_
      refine lv_iadd hx hb dX5_nextWord_43 ?_
      obtain ⟨v15, e16, hF⟩ := ob_s hF
      refine m_iaI X hp e16 dX5_nextWord_44 ?_
      refine lv_icmp_ge (tgt := 62) hx hb dX5_nextWord_45 (by decide) (fun c17 => ?_) (fun c17 => ?_)
      · have hF := if_p c17 hF
        refine lv_iload_n hx hb dX5_nextWord_62 rfl (lv_at hl 2 rfl) ?_
        refine lv_aload_n hx hb dX5_nextWord_63 rfl (lv_at hl 0 rfl) ?_
        obtain ⟨v18, e19, hF⟩ := ob_s hF
        refine m_getR X hp e19 kX5 (Nat.le_of_ble_eq_true rfl) q1460 dX5_nextWord_64 ?_
        refine lv_iload_n hx hb dX5_nextWord_67 rfl (lv_at hl 1 rfl) ?_
        refine lv_iconst (v := 2) hx hb dX5_nextWord_68 (by decide) ?_
        refine lv_iadd hx hb dX5_nextWord_69 ?_
        refine lv_iconst (v := 2) hx hb dX5_nextWord_70 (by decide) ?_
        refine lv_iload hx hb dX5_nextWord_71 (lv_at hl 3 rfl) ?_
        refine lv_imul hx hb dX5_nextWord_73 ?_
        refine lv_iadd hx hb dX5_nextWord_74 ?_
        obtain ⟨v20, e21, hF⟩ := ob_s hF
        refine m_iaI X hp e21 dX5_nextWord_75 ?_
        refine lv_isub hx hb dX5_nextWord_76 ?_
        refine lv_topi (fun v22 ev23 => ?_)
        have hF := nm_s hF ev23
        refine lv_istore_n (lv' := [(3, .int v22), (0, .ref x0), (2, .int x2), (4, .int x4)]) hx hb dX5_nextWord_77 rfl hl (by decide) rfl (fun ls hl => ?_)
        obtain ⟨v24, ev25⟩ : ∃ y : Int32, y = x4 + (1 : Int32) := ⟨_, rfl⟩
        have hF := nm_s hF ev25
        refine lv_iinc (v := v24) (lv' := [(4, .int v24), (3, .int v22), (0, .ref x0), (2, .int x2)]) hx hb dX5_nextWord_78 hl (k := 3) rfl (by rw [ev25]; rfl) (by decide) rfl (fun ls hl => ?_)
        refine lv_goto (tgt := 20) hx hb dX5_nextWord_81 (by decide) ?_
        exact ih _ _ _ _ _ _ _ hp (lv_sub hl [2, 3, 1, 0] rfl) hF
      · have hF := if_n c17 hF
        refine lv_aload_n hx hb dX5_nextWord_48 rfl (lv_at hl 0 rfl) ?_
        obtain ⟨v26, e27, hF⟩ := ob_s hF
        refine m_getR X hp e27 kX5 (Nat.le_of_ble_eq_true rfl) q1460 dX5_nextWord_49 ?_
        refine lv_iload_n hx hb dX5_nextWord_52 rfl (lv_at hl 1 rfl) ?_
        refine lv_iconst (v := 1) hx hb dX5_nextWord_53 (by decide) ?_
        refine lv_iadd hx hb dX5_nextWord_54 ?_
        refine lv_iconst (v := 2) hx hb dX5_nextWord_55 (by decide) ?_
        refine lv_iload hx hb dX5_nextWord_56 (lv_at hl 3 rfl) ?_
        refine lv_imul hx hb dX5_nextWord_58 ?_
        refine lv_iadd hx hb dX5_nextWord_59 ?_
        obtain ⟨v28, e29, hF⟩ := ob_s hF
        refine m_iaI X hp e29 dX5_nextWord_60 ?_
        cases hF
        exact m_iret X hp dX5_nextWord_61
def f_X5_nextWord (S : mSh) (M : mMm) (x0 : Nat) (x1 : Int32) : Option Int32 := nm (((1925 : Int32) + ((25 : Int32) * x1))) fun v1 => gd ((S x0).1 = 6) (ob (f_X5_has S M x0 x1 (8 : Int32)) fun v5 => nm ((0 : Int32)) fun v6 => (fb_X5_nextWord_20 S M FU x0 v1 v5 v6))
theorem w_X5_nextWord {x0 : Nat} {x1 : Int32} {r : Int32} (hF : f_X5_nextWord S M x0 x1 = some r) : mCt l D n0 P yX5_nextWord cX5_nextWord 5 (some .int) 1 22 0 0 [.ref x0, .int x1] S M n (some (.int r)) S M n := by
  refine m_ofW (by decide) (Nat.le_of_ble_eq_true rfl) (fun p e s m below meth c X hnm hp ls hl => ?_)
  have hx := X.1.1
  have hb := X.1.2.1
  have hown := X.1.2.2.2.1
  have hts := X.1.2.2.2.2
  have hl : lv_has ls 5 [(0, .ref x0), (1, .int x1)] := hl
  unfold f_X5_nextWord at hF
  refine lv_sipush (v := 1925) hx hb dX5_nextWord_0 (by decide) ?_
  refine lv_bipush (v := 25) hx hb dX5_nextWord_3 (by decide) ?_
  refine lv_iload_n hx hb dX5_nextWord_5 rfl (lv_at hl 1 rfl) ?_
  refine lv_imul hx hb dX5_nextWord_6 ?_
  refine lv_iadd hx hb dX5_nextWord_7 ?_
  refine lv_topi (fun v1 ev2 => ?_)
  have hF := nm_s hF ev2
  refine lv_istore_n (lv' := [(2, .int v1), (0, .ref x0), (1, .int x1)]) hx hb dX5_nextWord_8 rfl hl (by decide) rfl (fun ls hl => ?_)
  refine lv_aload_n hx hb dX5_nextWord_9 rfl (lv_at hl 1 rfl) ?_
  refine lv_iload_n hx hb dX5_nextWord_10 rfl (lv_at hl 2 rfl) ?_
  refine lv_bipush (v := 8) hx hb dX5_nextWord_11 (by decide) ?_
  obtain ⟨g3, hF⟩ := gd_s hF
  obtain ⟨v5, e4, hF⟩ := ob_s hF
  refine m_callV (As := [.int x1, .int (8 : Int32)]) (rest := []) X hp (w_X5_has e4) q1727 q1729 qs89 q144 q1730 2 rfl ds_X5_has ⟨Nat.le_of_ble_eq_true rfl, Nat.le_of_ble_eq_true rfl⟩ 6 (T := TX5) (N := 40) rfl (by decide) g3 hl.1 rfl (Nat.le_of_ble_eq_true rfl) dX5_nextWord_13 ⟨Nat.le_refl 0, Nat.le_refl 0⟩ (fun H locs hp => ?_)
  refine lv_istore_n (lv' := [(3, .int v5), (2, .int v1), (0, .ref x0), (1, .int x1)]) hx hb dX5_nextWord_16 rfl hl (by decide) rfl (fun ls hl => ?_)
  refine lv_iconst (v := 0) hx hb dX5_nextWord_17 (by decide) ?_
  refine lv_topi (fun v6 ev7 => ?_)
  have hF := nm_s hF ev7
  refine lv_istore (lv' := [(4, .int v6), (3, .int v5), (2, .int v1), (0, .ref x0), (1, .int x1)]) hx hb dX5_nextWord_18 hl (by decide) rfl (fun ls hl => ?_)
  exact b_X5_nextWord_20 X _ _ _ _ _ _ _ _ hp (lv_sub hl [3, 2, 1, 0] rfl) hF
end
section
variable {l : Launch} {D : va_G} {n0 : Nat} {P : mP} {S : mSh} {M : mMm} {n : Nat} {p : Program} {e : Env} {s : State} {m : MethodId} {args : Array Value} {below : List Frame} {meth : Method} {c : Code}
abbrev Rm_X5_turnsRound : Room := { frames := 2, cells := 0, slots := 0, locals := 43 }
def fb_X5_turnsRound_56 (S : mSh) (M : mMm) (x0 : Nat) (x1 : Int32) : Option mMm := gd ((S x0).1 = 6) (ob (f_X5_standsAt S M x0 x1) fun v25 => ob (f_X5_writes S M x0 (1 : Int32) x1 v25) fun M28 => some M28)
theorem b_X5_turnsRound_56 {M' : mMm} (X : mCx D n0 P p m c cX5_turnsRound 4 s args yX5_turnsRound.cls meth none) : ∀ (M : mMm) (x0 : Nat) (x1 : Int32) (H : Heap) (locs : List Loc) (ls : Array Slot), mHp D n0 S M n s H locs → lv_has ls 4 [(0, .ref x0), (1, .int x1)] → fb_X5_turnsRound_56 S M x0 x1 = some M' → W p l e Rm_X5_turnsRound s m args below meth c H locs 0 0 (MQ below (mQ D n0 none S M' n) args s 0 0 (mA n0)) (F0 m 56 ls []) := by
  have hx := X.1.1
  have hb := X.1.2.1
  have hown := X.1.2.2.2.1
  have hts := X.1.2.2.2.2
  intro M x0 x1 H locs ls hp hl hF
  unfold fb_X5_turnsRound_56 at hF
  refine lv_aload_n hx hb dX5_turnsRound_56 rfl (lv_at hl 0 rfl) ?_
  refine lv_iconst (v := 1) hx hb dX5_turnsRound_57 (by decide) ?_
  refine lv_iload_n hx hb dX5_turnsRound_58 rfl (lv_at hl 1 rfl) ?_
  refine lv_aload_n hx hb dX5_turnsRound_59 rfl (lv_at hl 0 rfl) ?_
  refine lv_iload_n hx hb dX5_turnsRound_60 rfl (lv_at hl 1 rfl) ?_
  obtain ⟨g23, hF⟩ := gd_s hF
  obtain ⟨v25, e24, hF⟩ := ob_s hF
  refine m_callV (As := [.int x1]) (rest := [.int x1, .int (1 : Int32), .ref x0]) X hp (w_X5_standsAt e24) q1750 q1752 qs94 q144 q1753 1 rfl ds_X5_standsAt ⟨Nat.le_of_ble_eq_true rfl, Nat.le_of_ble_eq_true rfl⟩ 6 (T := TX5) (N := 40) rfl (by decide) g23 hl.1 rfl (Nat.le_of_ble_eq_true rfl) dX5_turnsRound_61 ⟨Nat.le_refl 0, Nat.le_refl 0⟩ (fun H locs hp => ?_)
  obtain ⟨M28, e26, hF⟩ := ob_s hF
  refine m_callV (As := [.int (1 : Int32), .int x1, .int v25]) (rest := []) X hp (w_X5_writes e26) q1754 q1756 qs95 q144 q1757 3 rfl ds_X5_writes ⟨Nat.le_of_ble_eq_true rfl, Nat.le_of_ble_eq_true rfl⟩ 6 (T := TX5) (N := 40) rfl (by decide) g23 hl.1 rfl (Nat.le_of_ble_eq_true rfl) dX5_turnsRound_64 ⟨Nat.le_refl 0, Nat.le_refl 0⟩ (fun H locs hp => ?_)
  cases hF
  exact m_vret X hp dX5_turnsRound_67
def fb_X5_turnsRound_10 (S : mSh) (M : mMm) (x0 : Nat) (x1 : Int32) (x2 : Int32) (y0 : Int32) : Option mMm := gd ((S x0).1 = 6) (ob (f_X5_has S M x0 x1 (4 : Int32)) fun v4 => ob (f_X5_turned v4 x2) fun v6 => ob (f_X5_sets S M x0 x1 (4 : Int32) v6) fun M9 => ob (f_X5_adds S M9 x0 x1 (5 : Int32) y0) fun M12 => ob (rR S M12 x0 6 1) fun v13 => ob (f_X5_standsAt S M12 x0 x1) fun v16 => ob (aI S M12 v13 100 v16) fun v17 => (if v17 = (3 : Int32) then ob (f_X5_adds S M12 x0 x1 (6 : Int32) y0) fun M22 => (fb_X5_turnsRound_56 S M22 x0 x1) else (fb_X5_turnsRound_56 S M12 x0 x1)))
theorem b_X5_turnsRound_10 {M' : mMm} (X : mCx D n0 P p m c cX5_turnsRound 4 s args yX5_turnsRound.cls meth none) : ∀ (M : mMm) (x0 : Nat) (x1 : Int32) (x2 : Int32) (y0 : Int32) (H : Heap) (locs : List Loc) (ls : Array Slot), mHp D n0 S M n s H locs → lv_has ls 4 [(0, .ref x0), (1, .int x1), (2, .int x2)] → fb_X5_turnsRound_10 S M x0 x1 x2 y0 = some M' → W p l e Rm_X5_turnsRound s m args below meth c H locs 0 0 (MQ below (mQ D n0 none S M' n) args s 0 0 (mA n0)) (F0 m 10 ls [.int y0]) := by
  have hx := X.1.1
  have hb := X.1.2.1
  have hown := X.1.2.2.2.1
  have hts := X.1.2.2.2.2
  intro M x0 x1 x2 y0 H locs ls hp hl hF
  unfold fb_X5_turnsRound_10 at hF
  refine lv_istore_n (lv' := [(3, .int y0), (0, .ref x0), (1, .int x1), (2, .int x2)]) hx hb dX5_turnsRound_10 rfl hl (by decide) rfl (fun ls hl => ?_)
  refine lv_aload_n hx hb dX5_turnsRound_11 rfl (lv_at hl 1 rfl) ?_
  refine lv_iload_n hx hb dX5_turnsRound_12 rfl (lv_at hl 2 rfl) ?_
  refine lv_iconst (v := 4) hx hb dX5_turnsRound_13 (by decide) ?_
  refine lv_aload_n hx hb dX5_turnsRound_14 rfl (lv_at hl 1 rfl) ?_
  refine lv_iload_n hx hb dX5_turnsRound_15 rfl (lv_at hl 2 rfl) ?_
  refine lv_iconst (v := 4) hx hb dX5_turnsRound_16 (by decide) ?_
  obtain ⟨g2, hF⟩ := gd_s hF
  obtain ⟨v4, e3, hF⟩ := ob_s hF
  refine m_callV (As := [.int x1, .int (4 : Int32)]) (rest := [.int (4 : Int32), .int x1, .ref x0]) X hp (w_X5_has e3) q1727 q1729 qs89 q144 q1730 2 rfl ds_X5_has ⟨Nat.le_of_ble_eq_true rfl, Nat.le_of_ble_eq_true rfl⟩ 6 (T := TX5) (N := 40) rfl (by decide) g2 hl.1 rfl (Nat.le_of_ble_eq_true rfl) dX5_turnsRound_17 ⟨Nat.le_refl 0, Nat.le_refl 0⟩ (fun H locs hp => ?_)
  refine lv_iload_n hx hb dX5_turnsRound_20 rfl (lv_at hl 3 rfl) ?_
  obtain ⟨v6, e5, hF⟩ := ob_s hF
  refine m_callS (As := [.int v4, .int x2]) (rest := [.int (4 : Int32), .int x1, .ref x0]) X hp (w_X5_turned e5) q1743 q1744 q144 q1745 2 rfl ds_X5_turned ⟨Nat.le_of_ble_eq_true rfl, Nat.le_of_ble_eq_true rfl⟩ hl.1 rfl (Nat.le_of_ble_eq_true rfl) dX5_turnsRound_21 ⟨Nat.le_refl 0, Nat.le_refl 0⟩ (fun H locs hp => ?_)
  obtain ⟨M9, e7, hF⟩ := ob_s hF
  refine m_callV (As := [.int x1, .int (4 : Int32), .int v6]) (rest := []) X hp (w_X5_sets e7) q1746 q1748 qs93 q144 q1749 3 rfl ds_X5_sets ⟨Nat.le_of_ble_eq_true rfl, Nat.le_of_ble_eq_true rfl⟩ 6 (T := TX5) (N := 40) rfl (by decide) g2 hl.1 rfl (Nat.le_of_ble_eq_true rfl) dX5_turnsRound_24 ⟨Nat.le_refl 0, Nat.le_refl 0⟩ (fun H locs hp => ?_)
  refine lv_aload_n hx hb dX5_turnsRound_27 rfl (lv_at hl 1 rfl) ?_
  refine lv_iload_n hx hb dX5_turnsRound_28 rfl (lv_at hl 2 rfl) ?_
  refine lv_iconst (v := 5) hx hb dX5_turnsRound_29 (by decide) ?_
  refine lv_iload_n hx hb dX5_turnsRound_30 rfl (lv_at hl 0 rfl) ?_
  obtain ⟨M12, e10, hF⟩ := ob_s hF
  refine m_callV (As := [.int x1, .int (5 : Int32), .int y0]) (rest := []) X hp (w_X5_adds e10) q1735 q1737 qs91 q144 q1738 3 rfl ds_X5_adds ⟨Nat.le_of_ble_eq_true rfl, Nat.le_of_ble_eq_true rfl⟩ 6 (T := TX5) (N := 40) rfl (by decide) g2 hl.1 rfl (Nat.le_of_ble_eq_true rfl) dX5_turnsRound_31 ⟨Nat.le_refl 0, Nat.le_refl 0⟩ (fun H locs hp => ?_)
  refine lv_aload_n hx hb dX5_turnsRound_34 rfl (lv_at hl 1 rfl) ?_
  obtain ⟨v13, e14, hF⟩ := ob_s hF
  refine m_getR X hp e14 kX5 (Nat.le_of_ble_eq_true rfl) q1460 dX5_turnsRound_35 ?_
  refine lv_aload_n hx hb dX5_turnsRound_38 rfl (lv_at hl 1 rfl) ?_
  refine lv_iload_n hx hb dX5_turnsRound_39 rfl (lv_at hl 2 rfl) ?_
  obtain ⟨v16, e15, hF⟩ := ob_s hF
  refine m_callV (As := [.int x1]) (rest := [.ref v13]) X hp (w_X5_standsAt e15) q1750 q1752 qs94 q144 q1753 1 rfl ds_X5_standsAt ⟨Nat.le_of_ble_eq_true rfl, Nat.le_of_ble_eq_true rfl⟩ 6 (T := TX5) (N := 40) rfl (by decide) (rR_s e14).1 hl.1 rfl (Nat.le_of_ble_eq_true rfl) dX5_turnsRound_40 ⟨Nat.le_refl 0, Nat.le_refl 0⟩ (fun H locs hp => ?_)
  obtain ⟨v17, e18, hF⟩ := ob_s hF
  refine m_iaI X hp e18 dX5_turnsRound_43 ?_
  refine lv_iconst (v := 3) hx hb dX5_turnsRound_44 (by decide) ?_
  refine lv_icmp_ne (tgt := 56) hx hb dX5_turnsRound_45 (by decide) (fun c19 => ?_) (fun c19 => ?_)
  · have hF := if_n c19 hF
    exact b_X5_turnsRound_56 X _ _ _ _ _ _ hp (lv_sub hl [1, 2] rfl) hF
  · have hF := if_p c19 hF
    refine lv_aload_n hx hb dX5_turnsRound_48 rfl (lv_at hl 1 rfl) ?_
    refine lv_iload_n hx hb dX5_turnsRound_49 rfl (lv_at hl 2 rfl) ?_
    refine lv_bipush (v := 6) hx hb dX5_turnsRound_50 (by decide) ?_
    refine lv_iload_n hx hb dX5_turnsRound_52 rfl (lv_at hl 0 rfl) ?_
    obtain ⟨M22, e20, hF⟩ := ob_s hF
    refine m_callV (As := [.int x1, .int (6 : Int32), .int y0]) (rest := []) X hp (w_X5_adds e20) q1735 q1737 qs91 q144 q1738 3 rfl ds_X5_adds ⟨Nat.le_of_ble_eq_true rfl, Nat.le_of_ble_eq_true rfl⟩ 6 (T := TX5) (N := 40) rfl (by decide) (rR_s e14).1 hl.1 rfl (Nat.le_of_ble_eq_true rfl) dX5_turnsRound_53 ⟨Nat.le_refl 0, Nat.le_refl 0⟩ (fun H locs hp => ?_)
    exact b_X5_turnsRound_56 X _ _ _ _ _ _ hp (lv_sub hl [1, 2] rfl) hF
def f_X5_turnsRound (S : mSh) (M : mMm) (x0 : Nat) (x1 : Int32) (x2 : Int32) : Option mMm := (if x2 = (2 : Int32) then (fb_X5_turnsRound_10 S M x0 x1 x2 (2 : Int32)) else (fb_X5_turnsRound_10 S M x0 x1 x2 (1 : Int32)))
theorem w_X5_turnsRound {x0 : Nat} {x1 : Int32} {x2 : Int32} {M' : mMm} (hF : f_X5_turnsRound S M x0 x1 x2 = some M') : mCt l D n0 P yX5_turnsRound cX5_turnsRound 4 none 2 43 0 0 [.ref x0, .int x1, .int x2] S M n none S M' n := by
  refine m_ofW (by decide) (Nat.le_of_ble_eq_true rfl) (fun p e s m below meth c X hnm hp ls hl => ?_)
  have hx := X.1.1
  have hb := X.1.2.1
  have hown := X.1.2.2.2.1
  have hts := X.1.2.2.2.2
  have hl : lv_has ls 4 [(0, .ref x0), (1, .int x1), (2, .int x2)] := hl
  unfold f_X5_turnsRound at hF
  refine lv_iload_n hx hb dX5_turnsRound_0 rfl (lv_at hl 2 rfl) ?_
  refine lv_iconst (v := 2) hx hb dX5_turnsRound_1 (by decide) ?_
  refine lv_icmp_ne (tgt := 9) hx hb dX5_turnsRound_2 (by decide) (fun c1 => ?_) (fun c1 => ?_)
  · have hF := if_n c1 hF
    refine lv_iconst (v := 1) hx hb dX5_turnsRound_9 (by decide) ?_
    exact b_X5_turnsRound_10 X _ _ _ _ _ _ _ _ hp (lv_sub hl [0, 1, 2] rfl) hF
  · have hF := if_p c1 hF
    refine lv_iconst (v := 2) hx hb dX5_turnsRound_5 (by decide) ?_
    refine lv_goto (tgt := 10) hx hb dX5_turnsRound_6 (by decide) ?_
    exact b_X5_turnsRound_10 X _ _ _ _ _ _ _ _ hp (lv_sub hl [0, 1, 2] rfl) hF
end
section
variable {l : Launch} {D : va_G} {n0 : Nat} {P : mP} {S : mSh} {M : mMm} {n : Nat} {p : Program} {e : Env} {s : State} {m : MethodId} {args : Array Value} {below : List Frame} {meth : Method} {c : Code}
abbrev Rm_X5_goesOut : Room := { frames := 5, cells := 0, slots := 0, locals := 114 }
def fb_X5_goesOut_25 (S : mSh) (M : mMm) (x0 : Nat) (x1 : Int32) : Option mMm := gd ((S x0).1 = 6) (ob (f_X5_sets S M x0 x1 (1 : Int32) (0 : Int32)) fun M13 => some M13)
theorem b_X5_goesOut_25 {M' : mMm} (X : mCx D n0 P p m c cX5_goesOut 2 s args yX5_goesOut.cls meth none) : ∀ (M : mMm) (x0 : Nat) (x1 : Int32) (H : Heap) (locs : List Loc) (ls : Array Slot), mHp D n0 S M n s H locs → lv_has ls 2 [(0, .ref x0), (1, .int x1)] → fb_X5_goesOut_25 S M x0 x1 = some M' → W p l e Rm_X5_goesOut s m args below meth c H locs 0 0 (MQ below (mQ D n0 none S M' n) args s 0 0 (mA n0)) (F0 m 25 ls []) := by
  have hx := X.1.1
  have hb := X.1.2.1
  have hown := X.1.2.2.2.1
  have hts := X.1.2.2.2.2
  intro M x0 x1 H locs ls hp hl hF
  unfold fb_X5_goesOut_25 at hF
  refine lv_aload_n hx hb dX5_goesOut_25 rfl (lv_at hl 0 rfl) ?_
  refine lv_iload_n hx hb dX5_goesOut_26 rfl (lv_at hl 1 rfl) ?_
  refine lv_iconst (v := 1) hx hb dX5_goesOut_27 (by decide) ?_
  refine lv_iconst (v := 0) hx hb dX5_goesOut_28 (by decide) ?_
  obtain ⟨g10, hF⟩ := gd_s hF
  obtain ⟨M13, e11, hF⟩ := ob_s hF
  refine m_callV (As := [.int x1, .int (1 : Int32), .int (0 : Int32)]) (rest := []) X hp (w_X5_sets e11) q1746 q1748 qs93 q144 q1749 3 rfl ds_X5_sets ⟨Nat.le_of_ble_eq_true rfl, Nat.le_of_ble_eq_true rfl⟩ 6 (T := TX5) (N := 40) rfl (by decide) g10 hl.1 rfl (Nat.le_of_ble_eq_true rfl) dX5_goesOut_29 ⟨Nat.le_refl 0, Nat.le_refl 0⟩ (fun H locs hp => ?_)
  cases hF
  exact m_vret X hp dX5_goesOut_32
def f_X5_goesOut (S : mSh) (M : mMm) (x0 : Nat) (x1 : Int32) : Option mMm := gd ((S x0).1 = 6) (ob (f_X5_has S M x0 x1 (4 : Int32)) fun v3 => ob (f_X5_has S M x0 x1 (7 : Int32)) fun v5 => (if ((v3 + (2 : Int32)) - (v3 + (2 : Int32)) / (4 : Int32) * (4 : Int32)) = v5 then (fb_X5_goesOut_25 S M x0 x1) else ob (f_X5_comesOver S M x0 x1) fun M9 => (fb_X5_goesOut_25 S M9 x0 x1)))
theorem w_X5_goesOut {x0 : Nat} {x1 : Int32} {M' : mMm} (hF : f_X5_goesOut S M x0 x1 = some M') : mCt l D n0 P yX5_goesOut cX5_goesOut 2 none 5 114 0 0 [.ref x0, .int x1] S M n none S M' n := by
  refine m_ofW (by decide) (Nat.le_of_ble_eq_true rfl) (fun p e s m below meth c X hnm hp ls hl => ?_)
  have hx := X.1.1
  have hb := X.1.2.1
  have hown := X.1.2.2.2.1
  have hts := X.1.2.2.2.2
  have hl : lv_has ls 2 [(0, .ref x0), (1, .int x1)] := hl
  unfold f_X5_goesOut at hF
  refine lv_aload_n hx hb dX5_goesOut_0 rfl (lv_at hl 0 rfl) ?_
  refine lv_iload_n hx hb dX5_goesOut_1 rfl (lv_at hl 1 rfl) ?_
  refine lv_iconst (v := 4) hx hb dX5_goesOut_2 (by decide) ?_
  obtain ⟨g1, hF⟩ := gd_s hF
  obtain ⟨v3, e2, hF⟩ := ob_s hF
  refine m_callV (As := [.int x1, .int (4 : Int32)]) (rest := []) X hp (w_X5_has e2) q1727 q1729 qs89 q144 q1730 2 rfl ds_X5_has ⟨Nat.le_of_ble_eq_true rfl, Nat.le_of_ble_eq_true rfl⟩ 6 (T := TX5) (N := 40) rfl (by decide) g1 hl.1 rfl (Nat.le_of_ble_eq_true rfl) dX5_goesOut_3 ⟨Nat.le_refl 0, Nat.le_refl 0⟩ (fun H locs hp => ?_)
  refine lv_iconst (v := 2) hx hb dX5_goesOut_6 (by decide) ?_
  refine lv_iadd hx hb dX5_goesOut_7 ?_
  refine lv_iconst (v := 4) hx hb dX5_goesOut_8 (by decide) ?_
  refine lv_irem hx hb dX5_goesOut_9 (by decide) ?_
  refine lv_aload_n hx hb dX5_goesOut_10 rfl (lv_at hl 0 rfl) ?_
  refine lv_iload_n hx hb dX5_goesOut_11 rfl (lv_at hl 1 rfl) ?_
  refine lv_bipush (v := 7) hx hb dX5_goesOut_12 (by decide) ?_
  obtain ⟨v5, e4, hF⟩ := ob_s hF
  refine m_callV (As := [.int x1, .int (7 : Int32)]) (rest := [.int ((v3 + (2 : Int32)) - (v3 + (2 : Int32)) / (4 : Int32) * (4 : Int32))]) X hp (w_X5_has e4) q1727 q1729 qs89 q144 q1730 2 rfl ds_X5_has ⟨Nat.le_of_ble_eq_true rfl, Nat.le_of_ble_eq_true rfl⟩ 6 (T := TX5) (N := 40) rfl (by decide) g1 hl.1 rfl (Nat.le_of_ble_eq_true rfl) dX5_goesOut_14 ⟨Nat.le_refl 0, Nat.le_refl 0⟩ (fun H locs hp => ?_)
  refine lv_icmp_eq (tgt := 25) hx hb dX5_goesOut_17 (by decide) (fun c6 => ?_) (fun c6 => ?_)
  · have hF := if_p c6 hF
    exact b_X5_goesOut_25 X _ _ _ _ _ _ hp (lv_sub hl [0, 1] rfl) hF
  · have hF := if_n c6 hF
    refine lv_aload_n hx hb dX5_goesOut_20 rfl (lv_at hl 0 rfl) ?_
    refine lv_iload_n hx hb dX5_goesOut_21 rfl (lv_at hl 1 rfl) ?_
    obtain ⟨M9, e7, hF⟩ := ob_s hF
    refine m_callV (As := [.int x1]) (rest := []) X hp (w_X5_comesOver e7) q1775 q1777 qs98 q144 q1778 1 rfl ds_X5_comesOver ⟨Nat.le_of_ble_eq_true rfl, Nat.le_of_ble_eq_true rfl⟩ 6 (T := TX5) (N := 40) rfl (by decide) g1 hl.1 rfl (Nat.le_of_ble_eq_true rfl) dX5_goesOut_22 ⟨Nat.le_refl 0, Nat.le_refl 0⟩ (fun H locs hp => ?_)
    exact b_X5_goesOut_25 X _ _ _ _ _ _ hp (lv_sub hl [0, 1] rfl) hF
end
section
variable {l : Launch} {D : va_G} {n0 : Nat} {P : mP} {S : mSh} {M : mMm} {n : Nat} {p : Program} {e : Env} {s : State} {m : MethodId} {args : Array Value} {below : List Frame} {meth : Method} {c : Code}
abbrev Rm_X5_goesOn : Room := { frames := 6, cells := 0, slots := 0, locals := 135 }
def fb_X5_goesOn_178 (S : mSh) (k4 : mMm → Nat → Int32 → Int32 → Int32 → Option mMm) (M : mMm) (x0 : Nat) (x1 : Int32) (x2 : Int32) (x3 : Int32) : Option mMm := nm (x3 + (1 : Int32)) fun v73 => (k4 M x0 x1 x2 v73)
theorem b_X5_goesOn_178 {M' : mMm} (X : mCx D n0 P p m c cX5_goesOn 6 s args yX5_goesOn.cls meth none) (k4 : mMm → Nat → Int32 → Int32 → Int32 → Option mMm) (hk4 : ∀ (M : mMm) (x0 : Nat) (x1 : Int32) (x2 : Int32) (x3 : Int32) (H : Heap) (locs : List Loc) (ls : Array Slot), mHp D n0 S M n s H locs → lv_has ls 6 [(0, .ref x0), (1, .int x1), (2, .int x2), (3, .int x3)] → k4 M x0 x1 x2 x3 = some M' → W p l e Rm_X5_goesOn s m args below meth c H locs 0 0 (MQ below (mQ D n0 none S M' n) args s 0 0 (mA n0)) (F0 m 4 ls [])) : ∀ (M : mMm) (x0 : Nat) (x1 : Int32) (x2 : Int32) (x3 : Int32) (H : Heap) (locs : List Loc) (ls : Array Slot), mHp D n0 S M n s H locs → lv_has ls 6 [(0, .ref x0), (1, .int x1), (2, .int x2), (3, .int x3)] → fb_X5_goesOn_178 S k4 M x0 x1 x2 x3 = some M' → W p l e Rm_X5_goesOn s m args below meth c H locs 0 0 (MQ below (mQ D n0 none S M' n) args s 0 0 (mA n0)) (F0 m 178 ls []) := by
  have hx := X.1.1
  have hb := X.1.2.1
  have hown := X.1.2.2.2.1
  have hts := X.1.2.2.2.2
  intro M x0 x1 x2 x3 H locs ls hp hl hF
  unfold fb_X5_goesOn_178 at hF
  obtain ⟨v73, ev74⟩ : ∃ y : Int32, y = x3 + (1 : Int32) := ⟨_, rfl⟩
  have hF := nm_s hF ev74
  refine lv_iinc (v := v73) (lv' := [(3, .int v73), (0, .ref x0), (1, .int x1), (2, .int x2)]) hx hb dX5_goesOn_178 hl (k := 3) rfl (by rw [ev74]; rfl) (by decide) rfl (fun ls hl => ?_)
  refine lv_goto (tgt := 4) hx hb dX5_goesOn_181 (by decide) ?_
  exact hk4 _ _ _ _ _ _ _ _ hp (lv_sub hl [1, 2, 3, 0] rfl) hF
def fb_X5_goesOn_152 (S : mSh) (k4 : mMm → Nat → Int32 → Int32 → Int32 → Option mMm) (M : mMm) (x0 : Nat) (x1 : Int32) (x2 : Int32) (x3 : Int32) : Option mMm := (if x2 = 0 then (fb_X5_goesOn_178 S k4 M x0 x1 x2 x3) else gd ((S x0).1 = 6) (ob (f_X5_adds S M x0 x1 (11 : Int32) (1 : Int32)) fun M67 => ob (f_X5_standsAt S M67 x0 x1) fun v69 => ob (f_X5_writes S M67 x0 (2 : Int32) x1 v69) fun M72 => (fb_X5_goesOn_178 S k4 M72 x0 x1 x2 x3)))
theorem b_X5_goesOn_152 {M' : mMm} (X : mCx D n0 P p m c cX5_goesOn 6 s args yX5_goesOn.cls meth none) (k4 : mMm → Nat → Int32 → Int32 → Int32 → Option mMm) (hk4 : ∀ (M : mMm) (x0 : Nat) (x1 : Int32) (x2 : Int32) (x3 : Int32) (H : Heap) (locs : List Loc) (ls : Array Slot), mHp D n0 S M n s H locs → lv_has ls 6 [(0, .ref x0), (1, .int x1), (2, .int x2), (3, .int x3)] → k4 M x0 x1 x2 x3 = some M' → W p l e Rm_X5_goesOn s m args below meth c H locs 0 0 (MQ below (mQ D n0 none S M' n) args s 0 0 (mA n0)) (F0 m 4 ls [])) : ∀ (M : mMm) (x0 : Nat) (x1 : Int32) (x2 : Int32) (x3 : Int32) (H : Heap) (locs : List Loc) (ls : Array Slot), mHp D n0 S M n s H locs → lv_has ls 6 [(0, .ref x0), (1, .int x1), (2, .int x2), (3, .int x3)] → fb_X5_goesOn_152 S k4 M x0 x1 x2 x3 = some M' → W p l e Rm_X5_goesOn s m args below meth c H locs 0 0 (MQ below (mQ D n0 none S M' n) args s 0 0 (mA n0)) (F0 m 152 ls []) := by
  have hx := X.1.1
  have hb := X.1.2.1
  have hown := X.1.2.2.2.1
  have hts := X.1.2.2.2.2
  intro M x0 x1 x2 x3 H locs ls hp hl hF
  unfold fb_X5_goesOn_152 at hF
  refine lv_iload_n hx hb dX5_goesOn_152 rfl (lv_at hl 2 rfl) ?_
  refine lv_if_ne (tgt := 159) hx hb dX5_goesOn_153 (by decide) (fun c63 => ?_) (fun c63 => ?_)
  · have hF := if_n c63 hF
    refine lv_aload_n hx hb dX5_goesOn_159 rfl (lv_at hl 0 rfl) ?_
    refine lv_iload_n hx hb dX5_goesOn_160 rfl (lv_at hl 1 rfl) ?_
    refine lv_bipush (v := 11) hx hb dX5_goesOn_161 (by decide) ?_
    refine lv_iconst (v := 1) hx hb dX5_goesOn_163 (by decide) ?_
    obtain ⟨g64, hF⟩ := gd_s hF
    obtain ⟨M67, e65, hF⟩ := ob_s hF
    refine m_callV (As := [.int x1, .int (11 : Int32), .int (1 : Int32)]) (rest := []) X hp (w_X5_adds e65) q1735 q1737 qs91 q144 q1738 3 rfl ds_X5_adds ⟨Nat.le_of_ble_eq_true rfl, Nat.le_of_ble_eq_true rfl⟩ 6 (T := TX5) (N := 40) rfl (by decide) g64 hl.1 rfl (Nat.le_of_ble_eq_true rfl) dX5_goesOn_164 ⟨Nat.le_refl 0, Nat.le_refl 0⟩ (fun H locs hp => ?_)
    refine lv_aload_n hx hb dX5_goesOn_167 rfl (lv_at hl 0 rfl) ?_
    refine lv_iconst (v := 2) hx hb dX5_goesOn_168 (by decide) ?_
    refine lv_iload_n hx hb dX5_goesOn_169 rfl (lv_at hl 1 rfl) ?_
    refine lv_aload_n hx hb dX5_goesOn_170 rfl (lv_at hl 0 rfl) ?_
    refine lv_iload_n hx hb dX5_goesOn_171 rfl (lv_at hl 1 rfl) ?_
    obtain ⟨v69, e68, hF⟩ := ob_s hF
    refine m_callV (As := [.int x1]) (rest := [.int x1, .int (2 : Int32), .ref x0]) X hp (w_X5_standsAt e68) q1750 q1752 qs94 q144 q1753 1 rfl ds_X5_standsAt ⟨Nat.le_of_ble_eq_true rfl, Nat.le_of_ble_eq_true rfl⟩ 6 (T := TX5) (N := 40) rfl (by decide) g64 hl.1 rfl (Nat.le_of_ble_eq_true rfl) dX5_goesOn_172 ⟨Nat.le_refl 0, Nat.le_refl 0⟩ (fun H locs hp => ?_)
    obtain ⟨M72, e70, hF⟩ := ob_s hF
    refine m_callV (As := [.int (2 : Int32), .int x1, .int v69]) (rest := []) X hp (w_X5_writes e70) q1754 q1756 qs95 q144 q1757 3 rfl ds_X5_writes ⟨Nat.le_of_ble_eq_true rfl, Nat.le_of_ble_eq_true rfl⟩ 6 (T := TX5) (N := 40) rfl (by decide) g64 hl.1 rfl (Nat.le_of_ble_eq_true rfl) dX5_goesOn_175 ⟨Nat.le_refl 0, Nat.le_refl 0⟩ (fun H locs hp => ?_)
    exact b_X5_goesOn_178 X _ hk4 _ _ _ _ _ _ _ _ hp (lv_sub hl [0, 1, 2, 3] rfl) hF
  · have hF := if_p c63 hF
    refine lv_goto (tgt := 178) hx hb dX5_goesOn_156 (by decide) ?_
    exact b_X5_goesOn_178 X _ hk4 _ _ _ _ _ _ _ _ hp (lv_sub hl [0, 1, 2, 3] rfl) hF
def fb_X5_goesOn_151 (S : mSh) (k4 : mMm → Nat → Int32 → Int32 → Int32 → Option mMm) (M : mMm) (x0 : Nat) (x1 : Int32) (x3 : Int32) (y0 : Int32) : Option mMm := (fb_X5_goesOn_152 S k4 M x0 x1 y0 x3)
theorem b_X5_goesOn_151 {M' : mMm} (X : mCx D n0 P p m c cX5_goesOn 6 s args yX5_goesOn.cls meth none) (k4 : mMm → Nat → Int32 → Int32 → Int32 → Option mMm) (hk4 : ∀ (M : mMm) (x0 : Nat) (x1 : Int32) (x2 : Int32) (x3 : Int32) (H : Heap) (locs : List Loc) (ls : Array Slot), mHp D n0 S M n s H locs → lv_has ls 6 [(0, .ref x0), (1, .int x1), (2, .int x2), (3, .int x3)] → k4 M x0 x1 x2 x3 = some M' → W p l e Rm_X5_goesOn s m args below meth c H locs 0 0 (MQ below (mQ D n0 none S M' n) args s 0 0 (mA n0)) (F0 m 4 ls [])) : ∀ (M : mMm) (x0 : Nat) (x1 : Int32) (x3 : Int32) (y0 : Int32) (H : Heap) (locs : List Loc) (ls : Array Slot), mHp D n0 S M n s H locs → lv_has ls 6 [(0, .ref x0), (1, .int x1), (3, .int x3)] → fb_X5_goesOn_151 S k4 M x0 x1 x3 y0 = some M' → W p l e Rm_X5_goesOn s m args below meth c H locs 0 0 (MQ below (mQ D n0 none S M' n) args s 0 0 (mA n0)) (F0 m 151 ls [.int y0]) := by
  have hx := X.1.1
  have hb := X.1.2.1
  have hown := X.1.2.2.2.1
  have hts := X.1.2.2.2.2
  intro M x0 x1 x3 y0 H locs ls hp hl hF
  unfold fb_X5_goesOn_151 at hF
  refine lv_istore_n (lv' := [(2, .int y0), (0, .ref x0), (1, .int x1), (3, .int x3)]) hx hb dX5_goesOn_151 rfl hl (by decide) rfl (fun ls hl => ?_)
  exact b_X5_goesOn_152 X _ hk4 _ _ _ _ _ _ _ _ hp (lv_sub hl [1, 2, 0, 3] rfl) hF
def fb_X5_goesOn_4 (S : mSh) : Nat → mMm → Nat → Int32 → Int32 → Int32 → Option mMm
  | 0, _, _, _, _, _ => none
  | t + 1, M, x0, x1, x2, x3 => (if (2 : Int32) ≤ x3 then some M else (if x2 = 0 then some M else nm ((0 : Int32)) fun v7 => gd ((S x0).1 = 6) (ob (f_X5_has S M x0 x1 (2 : Int32)) fun v11 => ob (f_X5_has S M x0 x1 (4 : Int32)) fun v13 => ob (f_X5_goesX v13) fun v15 => nm ((v11 + v15)) fun v16 => ob (f_X5_has S M x0 x1 (3 : Int32)) fun v19 => ob (f_X5_has S M x0 x1 (4 : Int32)) fun v21 => ob (f_X5_goesY v21) fun v23 => nm ((v19 + v23)) fun v24 => ob (f_X5_isIn v16 v24) fun v27 => (if v27 = 0 then ob (f_X5_goesOut S M x0 x1) fun M62 => (fb_X5_goesOn_152 S (fb_X5_goesOn_4 S t) M62 x0 x1 v7 x3) else ob (f_X5_place v16 v24) fun v30 => ob (f_X5_isFree S M x0 v30) fun v32 => (if v32 = 0 then ob (f_X5_standsAt S M x0 x1) fun v56 => ob (f_X5_writes S M x0 (5 : Int32) x1 v56) fun M59 => (fb_X5_goesOn_152 S (fb_X5_goesOn_4 S t) M59 x0 x1 v7 x3) else ob (f_X5_sets S M x0 x1 (2 : Int32) v16) fun M36 => ob (f_X5_sets S M36 x0 x1 (3 : Int32) v24) fun M39 => (if x3 = 0 then ob (rR S M39 x0 6 1) fun v41 => ob (f_X5_place v16 v24) fun v44 => ob (aI S M39 v41 100 v44) fun v45 => (if v45 = (2 : Int32) then ob (f_X5_tells S M39 x0 (0 : Int32) x1) fun ⟨v49, M50⟩ => ob (f_X5_falls S M50 x0 v49) fun ⟨v52, M53⟩ => (if v52 = 0 then (fb_X5_goesOn_151 S (fb_X5_goesOn_4 S t) M53 x0 x1 x3 (0 : Int32)) else (fb_X5_goesOn_151 S (fb_X5_goesOn_4 S t) M53 x0 x1 x3 (1 : Int32))) else (fb_X5_goesOn_151 S (fb_X5_goesOn_4 S t) M39 x0 x1 x3 (0 : Int32))) else (fb_X5_goesOn_151 S (fb_X5_goesOn_4 S t) M39 x0 x1 x3 (0 : Int32))))))))
theorem b_X5_goesOn_4 {M' : mMm} (X : mCx D n0 P p m c cX5_goesOn 6 s args yX5_goesOn.cls meth none) : ∀ t : Nat, ∀ (M : mMm) (x0 : Nat) (x1 : Int32) (x2 : Int32) (x3 : Int32) (H : Heap) (locs : List Loc) (ls : Array Slot), mHp D n0 S M n s H locs → lv_has ls 6 [(0, .ref x0), (1, .int x1), (2, .int x2), (3, .int x3)] → fb_X5_goesOn_4 S t M x0 x1 x2 x3 = some M' → W p l e Rm_X5_goesOn s m args below meth c H locs 0 0 (MQ below (mQ D n0 none S M' n) args s 0 0 (mA n0)) (F0 m 4 ls []) := by
  have hx := X.1.1
  have hb := X.1.2.1
  have hown := X.1.2.2.2.1
  have hts := X.1.2.2.2.2
  intro t
  induction t with
  | zero =>
    intro M x0 x1 x2 x3 H locs ls hp hl hF
    have hF : none = some M' := hF
    cases hF
  | succ t ih =>
    intro M x0 x1 x2 x3 H locs ls hp hl hF
    rw [fb_X5_goesOn_4] at hF
    refine lv_iload_n hx hb dX5_goesOn_4 rfl (lv_at hl 3 rfl) ?_
    refine lv_iconst (v := 2) hx hb dX5_goesOn_5 (by decide) ?_
    refine lv_icmp_ge (tgt := 184) hx hb dX5_goesOn_6 (by decide) (fun c5 => ?_) (fun c5 => ?_)
    · have hF := if_p c5 hF
      cases hF
      exact m_vret X hp dX5_goesOn_184
    · have hF := if_n c5 hF
      refine lv_iload_n hx hb dX5_goesOn_9 rfl (lv_at hl 2 rfl) ?_
      refine lv_if_eq (tgt := 184) hx hb dX5_goesOn_10 (by decide) (fun c6 => ?_) (fun c6 => ?_)
      · have hF := if_p c6 hF
        cases hF
        exact m_vret X hp dX5_goesOn_184
      · have hF := if_n c6 hF
        refine lv_iconst (v := 0) hx hb dX5_goesOn_13 (by decide) ?_
        refine lv_topi (fun v7 ev8 => ?_)
        have hF := nm_s hF ev8
        refine lv_istore_n (lv' := [(2, .int v7), (0, .ref x0), (1, .int x1), (3, .int x3)]) hx hb dX5_goesOn_14 rfl hl (by decide) rfl (fun ls hl => ?_)
        refine lv_aload_n hx hb dX5_goesOn_15 rfl (lv_at hl 1 rfl) ?_
        refine lv_iload_n hx hb dX5_goesOn_16 rfl (lv_at hl 2 rfl) ?_
        refine lv_iconst (v := 2) hx hb dX5_goesOn_17 (by decide) ?_
        obtain ⟨g9, hF⟩ := gd_s hF
        obtain ⟨v11, e10, hF⟩ := ob_s hF
        refine m_callV (As := [.int x1, .int (2 : Int32)]) (rest := []) X hp (w_X5_has e10) q1727 q1729 qs89 q144 q1730 2 rfl ds_X5_has ⟨Nat.le_of_ble_eq_true rfl, Nat.le_of_ble_eq_true rfl⟩ 6 (T := TX5) (N := 40) rfl (by decide) g9 hl.1 rfl (Nat.le_of_ble_eq_true rfl) dX5_goesOn_18 ⟨Nat.le_refl 0, Nat.le_refl 0⟩ (fun H locs hp => ?_)
        refine lv_aload_n hx hb dX5_goesOn_21 rfl (lv_at hl 1 rfl) ?_
        refine lv_iload_n hx hb dX5_goesOn_22 rfl (lv_at hl 2 rfl) ?_
        refine lv_iconst (v := 4) hx hb dX5_goesOn_23 (by decide) ?_
        obtain ⟨v13, e12, hF⟩ := ob_s hF
        refine m_callV (As := [.int x1, .int (4 : Int32)]) (rest := [.int v11]) X hp (w_X5_has e12) q1727 q1729 qs89 q144 q1730 2 rfl ds_X5_has ⟨Nat.le_of_ble_eq_true rfl, Nat.le_of_ble_eq_true rfl⟩ 6 (T := TX5) (N := 40) rfl (by decide) g9 hl.1 rfl (Nat.le_of_ble_eq_true rfl) dX5_goesOn_24 ⟨Nat.le_refl 0, Nat.le_refl 0⟩ (fun H locs hp => ?_)
        obtain ⟨v15, e14, hF⟩ := ob_s hF
        refine m_callS (As := [.int v13]) (rest := [.int v11]) X hp (w_X5_goesX e14) q1762 q1763 q144 q1764 1 rfl ds_X5_goesX ⟨Nat.le_of_ble_eq_true rfl, Nat.le_of_ble_eq_true rfl⟩ hl.1 rfl (Nat.le_of_ble_eq_true rfl) dX5_goesOn_27 ⟨Nat.le_refl 0, Nat.le_refl 0⟩ (fun H locs hp => ?_)
        refine lv_iadd hx hb dX5_goesOn_30 ?_
        refine lv_topi (fun v16 ev17 => ?_)
        have hF := nm_s hF ev17
        refine lv_istore (lv' := [(4, .int v16), (2, .int v7), (0, .ref x0), (1, .int x1), (3, .int x3)]) hx hb dX5_goesOn_31 hl (by decide) rfl (fun ls hl => ?_)
        refine lv_aload_n hx hb dX5_goesOn_33 rfl (lv_at hl 2 rfl) ?_
        refine lv_iload_n hx hb dX5_goesOn_34 rfl (lv_at hl 3 rfl) ?_
        refine lv_iconst (v := 3) hx hb dX5_goesOn_35 (by decide) ?_
        obtain ⟨v19, e18, hF⟩ := ob_s hF
        refine m_callV (As := [.int x1, .int (3 : Int32)]) (rest := []) X hp (w_X5_has e18) q1727 q1729 qs89 q144 q1730 2 rfl ds_X5_has ⟨Nat.le_of_ble_eq_true rfl, Nat.le_of_ble_eq_true rfl⟩ 6 (T := TX5) (N := 40) rfl (by decide) g9 hl.1 rfl (Nat.le_of_ble_eq_true rfl) dX5_goesOn_36 ⟨Nat.le_refl 0, Nat.le_refl 0⟩ (fun H locs hp => ?_)
        refine lv_aload_n hx hb dX5_goesOn_39 rfl (lv_at hl 2 rfl) ?_
        refine lv_iload_n hx hb dX5_goesOn_40 rfl (lv_at hl 3 rfl) ?_
        refine lv_iconst (v := 4) hx hb dX5_goesOn_41 (by decide) ?_
        obtain ⟨v21, e20, hF⟩ := ob_s hF
        refine m_callV (As := [.int x1, .int (4 : Int32)]) (rest := [.int v19]) X hp (w_X5_has e20) q1727 q1729 qs89 q144 q1730 2 rfl ds_X5_has ⟨Nat.le_of_ble_eq_true rfl, Nat.le_of_ble_eq_true rfl⟩ 6 (T := TX5) (N := 40) rfl (by decide) g9 hl.1 rfl (Nat.le_of_ble_eq_true rfl) dX5_goesOn_42 ⟨Nat.le_refl 0, Nat.le_refl 0⟩ (fun H locs hp => ?_)
        obtain ⟨v23, e22, hF⟩ := ob_s hF
        refine m_callS (As := [.int v21]) (rest := [.int v19]) X hp (w_X5_goesY e22) q1765 q1766 q144 q1767 1 rfl ds_X5_goesY ⟨Nat.le_of_ble_eq_true rfl, Nat.le_of_ble_eq_true rfl⟩ hl.1 rfl (Nat.le_of_ble_eq_true rfl) dX5_goesOn_45 ⟨Nat.le_refl 0, Nat.le_refl 0⟩ (fun H locs hp => ?_)
        refine lv_iadd hx hb dX5_goesOn_48 ?_
        refine lv_topi (fun v24 ev25 => ?_)
        have hF := nm_s hF ev25
        refine lv_istore (lv' := [(5, .int v24), (4, .int v16), (2, .int v7), (0, .ref x0), (1, .int x1), (3, .int x3)]) hx hb dX5_goesOn_49 hl (by decide) rfl (fun ls hl => ?_)
        refine lv_iload hx hb dX5_goesOn_51 (lv_at hl 1 rfl) ?_
        refine lv_iload hx hb dX5_goesOn_53 (lv_at hl 0 rfl) ?_
        obtain ⟨v27, e26, hF⟩ := ob_s hF
        refine m_callS (As := [.int v16, .int v24]) (rest := []) X hp (w_X5_isIn e26) q1768 q1769 q144 q1770 2 rfl ds_X5_isIn ⟨Nat.le_of_ble_eq_true rfl, Nat.le_of_ble_eq_true rfl⟩ hl.1 rfl (Nat.le_of_ble_eq_true rfl) dX5_goesOn_55 ⟨Nat.le_refl 0, Nat.le_refl 0⟩ (fun H locs hp => ?_)
        refine lv_if_ne (tgt := 69) hx hb dX5_goesOn_58 (by decide) (fun c28 => ?_) (fun c28 => ?_)
        · have hF := if_n c28 hF
          refine lv_aload_n hx hb dX5_goesOn_69 rfl (lv_at hl 3 rfl) ?_
          refine lv_iload hx hb dX5_goesOn_70 (lv_at hl 1 rfl) ?_
          refine lv_iload hx hb dX5_goesOn_72 (lv_at hl 0 rfl) ?_
          obtain ⟨v30, e29, hF⟩ := ob_s hF
          refine m_callS (As := [.int v16, .int v24]) (rest := [.ref x0]) X hp (w_X5_place e29) q1708 q1709 q144 q1710 2 rfl ds_X5_place ⟨Nat.le_of_ble_eq_true rfl, Nat.le_of_ble_eq_true rfl⟩ hl.1 rfl (Nat.le_of_ble_eq_true rfl) dX5_goesOn_74 ⟨Nat.le_refl 0, Nat.le_refl 0⟩ (fun H locs hp => ?_)
          obtain ⟨v32, e31, hF⟩ := ob_s hF
          refine m_callV (As := [.int v30]) (rest := []) X hp (w_X5_isFree e31) q1815 q1817 qs106 q144 q1818 1 rfl ds_X5_isFree ⟨Nat.le_of_ble_eq_true rfl, Nat.le_of_ble_eq_true rfl⟩ 6 (T := TX5) (N := 40) rfl (by decide) g9 hl.1 rfl (Nat.le_of_ble_eq_true rfl) dX5_goesOn_77 ⟨Nat.le_refl 0, Nat.le_refl 0⟩ (fun H locs hp => ?_)
          refine lv_if_ne (tgt := 97) hx hb dX5_goesOn_80 (by decide) (fun c33 => ?_) (fun c33 => ?_)
          · have hF := if_n c33 hF
            refine lv_aload_n hx hb dX5_goesOn_97 rfl (lv_at hl 3 rfl) ?_
            refine lv_iload_n hx hb dX5_goesOn_98 rfl (lv_at hl 4 rfl) ?_
            refine lv_iconst (v := 2) hx hb dX5_goesOn_99 (by decide) ?_
            refine lv_iload hx hb dX5_goesOn_100 (lv_at hl 1 rfl) ?_
            obtain ⟨M36, e34, hF⟩ := ob_s hF
            refine m_callV (As := [.int x1, .int (2 : Int32), .int v16]) (rest := []) X hp (w_X5_sets e34) q1746 q1748 qs93 q144 q1749 3 rfl ds_X5_sets ⟨Nat.le_of_ble_eq_true rfl, Nat.le_of_ble_eq_true rfl⟩ 6 (T := TX5) (N := 40) rfl (by decide) g9 hl.1 rfl (Nat.le_of_ble_eq_true rfl) dX5_goesOn_102 ⟨Nat.le_refl 0, Nat.le_refl 0⟩ (fun H locs hp => ?_)
            refine lv_aload_n hx hb dX5_goesOn_105 rfl (lv_at hl 3 rfl) ?_
            refine lv_iload_n hx hb dX5_goesOn_106 rfl (lv_at hl 4 rfl) ?_
            refine lv_iconst (v := 3) hx hb dX5_goesOn_107 (by decide) ?_
            refine lv_iload hx hb dX5_goesOn_108 (lv_at hl 0 rfl) ?_
            obtain ⟨M39, e37, hF⟩ := ob_s hF
            refine m_callV (As := [.int x1, .int (3 : Int32), .int v24]) (rest := []) X hp (w_X5_sets e37) q1746 q1748 qs93 q144 q1749 3 rfl ds_X5_sets ⟨Nat.le_of_ble_eq_true rfl, Nat.le_of_ble_eq_true rfl⟩ 6 (T := TX5) (N := 40) rfl (by decide) g9 hl.1 rfl (Nat.le_of_ble_eq_true rfl) dX5_goesOn_110 ⟨Nat.le_refl 0, Nat.le_refl 0⟩ (fun H locs hp => ?_)
            refine lv_iload_n hx hb dX5_goesOn_113 rfl (lv_at hl 5 rfl) ?_
            refine lv_if_ne (tgt := 150) hx hb dX5_goesOn_114 (by decide) (fun c40 => ?_) (fun c40 => ?_)
            · have hF := if_n c40 hF
              refine lv_iconst (v := 0) hx hb dX5_goesOn_150 (by decide) ?_
              exact b_X5_goesOn_151 X _ ih _ _ _ _ _ _ _ _ hp (lv_sub hl [3, 4, 5] rfl) hF
            · have hF := if_p c40 hF
              refine lv_aload_n hx hb dX5_goesOn_117 rfl (lv_at hl 3 rfl) ?_
              obtain ⟨v41, e42, hF⟩ := ob_s hF
              refine m_getR X hp e42 kX5 (Nat.le_of_ble_eq_true rfl) q1460 dX5_goesOn_118 ?_
              refine lv_iload hx hb dX5_goesOn_121 (lv_at hl 1 rfl) ?_
              refine lv_iload hx hb dX5_goesOn_123 (lv_at hl 0 rfl) ?_
              obtain ⟨v44, e43, hF⟩ := ob_s hF
              refine m_callS (As := [.int v16, .int v24]) (rest := [.ref v41]) X hp (w_X5_place e43) q1708 q1709 q144 q1710 2 rfl ds_X5_place ⟨Nat.le_of_ble_eq_true rfl, Nat.le_of_ble_eq_true rfl⟩ hl.1 rfl (Nat.le_of_ble_eq_true rfl) dX5_goesOn_125 ⟨Nat.le_refl 0, Nat.le_refl 0⟩ (fun H locs hp => ?_)
              obtain ⟨v45, e46, hF⟩ := ob_s hF
              refine m_iaI X hp e46 dX5_goesOn_128 ?_
              refine lv_iconst (v := 2) hx hb dX5_goesOn_129 (by decide) ?_
              refine lv_icmp_ne (tgt := 150) hx hb dX5_goesOn_130 (by decide) (fun c47 => ?_) (fun c47 => ?_)
              · have hF := if_n c47 hF
                refine lv_iconst (v := 0) hx hb dX5_goesOn_150 (by decide) ?_
                exact b_X5_goesOn_151 X _ ih _ _ _ _ _ _ _ _ hp (lv_sub hl [3, 4, 5] rfl) hF
              · have hF := if_p c47 hF
                refine lv_aload_n hx hb dX5_goesOn_133 rfl (lv_at hl 3 rfl) ?_
                refine lv_aload_n hx hb dX5_goesOn_134 rfl (lv_at hl 3 rfl) ?_
                refine lv_iconst (v := 0) hx hb dX5_goesOn_135 (by decide) ?_
                refine lv_iload_n hx hb dX5_goesOn_136 rfl (lv_at hl 4 rfl) ?_
                obtain ⟨⟨v49, M50⟩, e48, hF⟩ := ob_s hF
                refine m_callV (As := [.int (0 : Int32), .int x1]) (rest := [.ref x0]) X hp (w_X5_tells e48) q1779 q1781 qs99 q144 q1782 2 rfl ds_X5_tells ⟨Nat.le_of_ble_eq_true rfl, Nat.le_of_ble_eq_true rfl⟩ 6 (T := TX5) (N := 40) rfl (by decide) (rR_s e42).1 hl.1 rfl (Nat.le_of_ble_eq_true rfl) dX5_goesOn_137 ⟨Nat.le_refl 0, Nat.le_refl 0⟩ (fun H locs hp => ?_)
                obtain ⟨⟨v52, M53⟩, e51, hF⟩ := ob_s hF
                refine m_callV (As := [.int v49]) (rest := []) X hp (w_X5_falls e51) q1805 q1807 qs104 q144 q1808 1 rfl ds_X5_falls ⟨Nat.le_of_ble_eq_true rfl, Nat.le_of_ble_eq_true rfl⟩ 6 (T := TX5) (N := 40) rfl (by decide) (rR_s e42).1 hl.1 rfl (Nat.le_of_ble_eq_true rfl) dX5_goesOn_140 ⟨Nat.le_refl 0, Nat.le_refl 0⟩ (fun H locs hp => ?_)
                refine lv_if_eq (tgt := 150) hx hb dX5_goesOn_143 (by decide) (fun c54 => ?_) (fun c54 => ?_)
                · have hF := if_p c54 hF
                  refine lv_iconst (v := 0) hx hb dX5_goesOn_150 (by decide) ?_
                  exact b_X5_goesOn_151 X _ ih _ _ _ _ _ _ _ _ hp (lv_sub hl [3, 4, 5] rfl) hF
                · have hF := if_n c54 hF
                  refine lv_iconst (v := 1) hx hb dX5_goesOn_146 (by decide) ?_
                  refine lv_goto (tgt := 151) hx hb dX5_goesOn_147 (by decide) ?_
                  exact b_X5_goesOn_151 X _ ih _ _ _ _ _ _ _ _ hp (lv_sub hl [3, 4, 5] rfl) hF
          · have hF := if_p c33 hF
            refine lv_aload_n hx hb dX5_goesOn_83 rfl (lv_at hl 3 rfl) ?_
            refine lv_iconst (v := 5) hx hb dX5_goesOn_84 (by decide) ?_
            refine lv_iload_n hx hb dX5_goesOn_85 rfl (lv_at hl 4 rfl) ?_
            refine lv_aload_n hx hb dX5_goesOn_86 rfl (lv_at hl 3 rfl) ?_
            refine lv_iload_n hx hb dX5_goesOn_87 rfl (lv_at hl 4 rfl) ?_
            obtain ⟨v56, e55, hF⟩ := ob_s hF
            refine m_callV (As := [.int x1]) (rest := [.int x1, .int (5 : Int32), .ref x0]) X hp (w_X5_standsAt e55) q1750 q1752 qs94 q144 q1753 1 rfl ds_X5_standsAt ⟨Nat.le_of_ble_eq_true rfl, Nat.le_of_ble_eq_true rfl⟩ 6 (T := TX5) (N := 40) rfl (by decide) g9 hl.1 rfl (Nat.le_of_ble_eq_true rfl) dX5_goesOn_88 ⟨Nat.le_refl 0, Nat.le_refl 0⟩ (fun H locs hp => ?_)
            obtain ⟨M59, e57, hF⟩ := ob_s hF
            refine m_callV (As := [.int (5 : Int32), .int x1, .int v56]) (rest := []) X hp (w_X5_writes e57) q1754 q1756 qs95 q144 q1757 3 rfl ds_X5_writes ⟨Nat.le_of_ble_eq_true rfl, Nat.le_of_ble_eq_true rfl⟩ 6 (T := TX5) (N := 40) rfl (by decide) g9 hl.1 rfl (Nat.le_of_ble_eq_true rfl) dX5_goesOn_91 ⟨Nat.le_refl 0, Nat.le_refl 0⟩ (fun H locs hp => ?_)
            refine lv_goto (tgt := 152) hx hb dX5_goesOn_94 (by decide) ?_
            exact b_X5_goesOn_152 X _ ih _ _ _ _ _ _ _ _ hp (lv_sub hl [3, 4, 2, 5] rfl) hF
        · have hF := if_p c28 hF
          refine lv_aload_n hx hb dX5_goesOn_61 rfl (lv_at hl 3 rfl) ?_
          refine lv_iload_n hx hb dX5_goesOn_62 rfl (lv_at hl 4 rfl) ?_
          obtain ⟨M62, e60, hF⟩ := ob_s hF
          refine m_callV (As := [.int x1]) (rest := []) X hp (w_X5_goesOut e60) q1771 q1773 qs97 q144 q1774 1 rfl ds_X5_goesOut ⟨Nat.le_of_ble_eq_true rfl, Nat.le_of_ble_eq_true rfl⟩ 6 (T := TX5) (N := 40) rfl (by decide) g9 hl.1 rfl (Nat.le_of_ble_eq_true rfl) dX5_goesOn_63 ⟨Nat.le_refl 0, Nat.le_refl 0⟩ (fun H locs hp => ?_)
          refine lv_goto (tgt := 152) hx hb dX5_goesOn_66 (by decide) ?_
          exact b_X5_goesOn_152 X _ ih _ _ _ _ _ _ _ _ hp (lv_sub hl [3, 4, 2, 5] rfl) hF
def f_X5_goesOn (S : mSh) (M : mMm) (x0 : Nat) (x1 : Int32) : Option mMm := nm ((1 : Int32)) fun v1 => nm ((0 : Int32)) fun v3 => (fb_X5_goesOn_4 S FU M x0 x1 v1 v3)
theorem w_X5_goesOn {x0 : Nat} {x1 : Int32} {M' : mMm} (hF : f_X5_goesOn S M x0 x1 = some M') : mCt l D n0 P yX5_goesOn cX5_goesOn 6 none 6 135 0 0 [.ref x0, .int x1] S M n none S M' n := by
  refine m_ofW (by decide) (Nat.le_of_ble_eq_true rfl) (fun p e s m below meth c X hnm hp ls hl => ?_)
  have hx := X.1.1
  have hb := X.1.2.1
  have hown := X.1.2.2.2.1
  have hts := X.1.2.2.2.2
  have hl : lv_has ls 6 [(0, .ref x0), (1, .int x1)] := hl
  unfold f_X5_goesOn at hF
  refine lv_iconst (v := 1) hx hb dX5_goesOn_0 (by decide) ?_
  refine lv_topi (fun v1 ev2 => ?_)
  have hF := nm_s hF ev2
  refine lv_istore_n (lv' := [(2, .int v1), (0, .ref x0), (1, .int x1)]) hx hb dX5_goesOn_1 rfl hl (by decide) rfl (fun ls hl => ?_)
  refine lv_iconst (v := 0) hx hb dX5_goesOn_2 (by decide) ?_
  refine lv_topi (fun v3 ev4 => ?_)
  have hF := nm_s hF ev4
  refine lv_istore_n (lv' := [(3, .int v3), (2, .int v1), (0, .ref x0), (1, .int x1)]) hx hb dX5_goesOn_3 rfl hl (by decide) rfl (fun ls hl => ?_)
  exact b_X5_goesOn_4 X _ _ _ _ _ _ _ _ _ hp (lv_sub hl [2, 3, 1, 0] rfl) hF
end
section
variable {l : Launch} {D : va_G} {n0 : Nat} {P : mP} {S : mSh} {M : mMm} {n : Nat} {p : Program} {e : Env} {s : State} {m : MethodId} {args : Array Value} {below : List Frame} {meth : Method} {c : Code}
abbrev Rm_X5_goesMinute : Room := { frames := 7, cells := 0, slots := 0, locals := 160 }
def fb_X5_goesMinute_64 (S : mSh) (k2 : mMm → Nat → Int32 → Option mMm) (M : mMm) (x0 : Nat) (x1 : Int32) : Option mMm := nm (x1 + (1 : Int32)) fun v30 => (k2 M x0 v30)
theorem b_X5_goesMinute_64 {M' : mMm} (X : mCx D n0 P p m c cX5_goesMinute 3 s args yX5_goesMinute.cls meth none) (k2 : mMm → Nat → Int32 → Option mMm) (hk2 : ∀ (M : mMm) (x0 : Nat) (x1 : Int32) (H : Heap) (locs : List Loc) (ls : Array Slot), mHp D n0 S M n s H locs → lv_has ls 3 [(0, .ref x0), (1, .int x1)] → k2 M x0 x1 = some M' → W p l e Rm_X5_goesMinute s m args below meth c H locs 0 0 (MQ below (mQ D n0 none S M' n) args s 0 0 (mA n0)) (F0 m 2 ls [])) : ∀ (M : mMm) (x0 : Nat) (x1 : Int32) (H : Heap) (locs : List Loc) (ls : Array Slot), mHp D n0 S M n s H locs → lv_has ls 3 [(0, .ref x0), (1, .int x1)] → fb_X5_goesMinute_64 S k2 M x0 x1 = some M' → W p l e Rm_X5_goesMinute s m args below meth c H locs 0 0 (MQ below (mQ D n0 none S M' n) args s 0 0 (mA n0)) (F0 m 64 ls []) := by
  have hx := X.1.1
  have hb := X.1.2.1
  have hown := X.1.2.2.2.1
  have hts := X.1.2.2.2.2
  intro M x0 x1 H locs ls hp hl hF
  unfold fb_X5_goesMinute_64 at hF
  obtain ⟨v30, ev31⟩ : ∃ y : Int32, y = x1 + (1 : Int32) := ⟨_, rfl⟩
  have hF := nm_s hF ev31
  refine lv_iinc (v := v30) (lv' := [(1, .int v30), (0, .ref x0)]) hx hb dX5_goesMinute_64 hl (k := 1) rfl (by rw [ev31]; rfl) (by decide) rfl (fun ls hl => ?_)
  refine lv_goto (tgt := 2) hx hb dX5_goesMinute_67 (by decide) ?_
  exact hk2 _ _ _ _ _ _ hp (lv_sub hl [1, 0] rfl) hF
def fb_X5_goesMinute_2 (S : mSh) : Nat → mMm → Nat → Int32 → Option mMm
  | 0, _, _, _ => none
  | t + 1, M, x0, x1 => ob (rR S M x0 6 1) fun v3 => ob (aI S M v3 100 (940 : Int32)) fun v5 => (if v5 ≤ x1 then ob (rR S M x0 6 1) fun v8 => ob (aI S M v8 100 (936 : Int32)) fun v10 => ob (wA S M v8 100 (936 : Int32) (.int (v10 + (1 : Int32)))) fun M12 => some M12 else ob (f_X5_has S M x0 x1 (1 : Int32)) fun v15 => (if v15 = 0 then (fb_X5_goesMinute_64 S (fb_X5_goesMinute_2 S t) M x0 x1) else ob (f_X5_nextWord S M x0 x1) fun v18 => ob (f_X5_adds S M x0 x1 (8 : Int32) (1 : Int32)) fun M21 => (if (3 : Int32) ≤ v18 then (if v18 = (3 : Int32) then ob (f_X5_goesOn S M21 x0 x1) fun M26 => (fb_X5_goesMinute_64 S (fb_X5_goesMinute_2 S t) M26 x0 x1) else (fb_X5_goesMinute_64 S (fb_X5_goesMinute_2 S t) M21 x0 x1)) else ob (f_X5_turnsRound S M21 x0 x1 v18) fun M29 => (fb_X5_goesMinute_64 S (fb_X5_goesMinute_2 S t) M29 x0 x1))))
theorem b_X5_goesMinute_2 {M' : mMm} (X : mCx D n0 P p m c cX5_goesMinute 3 s args yX5_goesMinute.cls meth none) : ∀ t : Nat, ∀ (M : mMm) (x0 : Nat) (x1 : Int32) (H : Heap) (locs : List Loc) (ls : Array Slot), mHp D n0 S M n s H locs → lv_has ls 3 [(0, .ref x0), (1, .int x1)] → fb_X5_goesMinute_2 S t M x0 x1 = some M' → W p l e Rm_X5_goesMinute s m args below meth c H locs 0 0 (MQ below (mQ D n0 none S M' n) args s 0 0 (mA n0)) (F0 m 2 ls []) := by
  have hx := X.1.1
  have hb := X.1.2.1
  have hown := X.1.2.2.2.1
  have hts := X.1.2.2.2.2
  intro t
  induction t with
  | zero =>
    intro M x0 x1 H locs ls hp hl hF
    have hF : none = some M' := hF
    cases hF
  | succ t ih =>
    intro M x0 x1 H locs ls hp hl hF
    rw [fb_X5_goesMinute_2] at hF
    refine lv_iload_n hx hb dX5_goesMinute_2 rfl (lv_at hl 1 rfl) ?_
    refine lv_aload_n hx hb dX5_goesMinute_3 rfl (lv_at hl 0 rfl) ?_
    obtain ⟨v3, e4, hF⟩ := ob_s hF
    refine m_getR X hp e4 kX5 (Nat.le_of_ble_eq_true rfl) q1460 dX5_goesMinute_4 ?_
    refine lv_sipush (v := 940) hx hb dX5_goesMinute_7 (by decide) ?_
    obtain ⟨v5, e6, hF⟩ := ob_s hF
    refine m_iaI X hp e6 dX5_goesMinute_10 ?_
    refine lv_icmp_ge (tgt := 70) hx hb dX5_goesMinute_11 (by decide) (fun c7 => ?_) (fun c7 => ?_)
    · have hF := if_p c7 hF
      refine lv_aload_n hx hb dX5_goesMinute_70 rfl (lv_at hl 0 rfl) ?_
      obtain ⟨v8, e9, hF⟩ := ob_s hF
      refine m_getR X hp e9 kX5 (Nat.le_of_ble_eq_true rfl) q1460 dX5_goesMinute_71 ?_
      refine lv_sipush (v := 936) hx hb dX5_goesMinute_74 (by decide) ?_
      refine lv_dup2_11 hx hb dX5_goesMinute_77 rfl rfl ?_
      obtain ⟨v10, e11, hF⟩ := ob_s hF
      refine m_iaI X hp e11 dX5_goesMinute_78 ?_
      refine lv_iconst (v := 1) hx hb dX5_goesMinute_79 (by decide) ?_
      refine lv_iadd hx hb dX5_goesMinute_80 ?_
      obtain ⟨M12, e13, hF⟩ := ob_s hF
      refine m_iaW X hp e13 dX5_goesMinute_81 (fun H locs hp => ?_)
      cases hF
      exact m_vret X hp dX5_goesMinute_82
    · have hF := if_n c7 hF
      refine lv_aload_n hx hb dX5_goesMinute_14 rfl (lv_at hl 0 rfl) ?_
      refine lv_iload_n hx hb dX5_goesMinute_15 rfl (lv_at hl 1 rfl) ?_
      refine lv_iconst (v := 1) hx hb dX5_goesMinute_16 (by decide) ?_
      obtain ⟨v15, e14, hF⟩ := ob_s hF
      refine m_callV (As := [.int x1, .int (1 : Int32)]) (rest := []) X hp (w_X5_has e14) q1727 q1729 qs89 q144 q1730 2 rfl ds_X5_has ⟨Nat.le_of_ble_eq_true rfl, Nat.le_of_ble_eq_true rfl⟩ 6 (T := TX5) (N := 40) rfl (by decide) (rR_s e4).1 hl.1 rfl (Nat.le_of_ble_eq_true rfl) dX5_goesMinute_17 ⟨Nat.le_refl 0, Nat.le_refl 0⟩ (fun H locs hp => ?_)
      refine lv_if_ne (tgt := 26) hx hb dX5_goesMinute_20 (by decide) (fun c16 => ?_) (fun c16 => ?_)
      · have hF := if_n c16 hF
        refine lv_aload_n hx hb dX5_goesMinute_26 rfl (lv_at hl 0 rfl) ?_
        refine lv_iload_n hx hb dX5_goesMinute_27 rfl (lv_at hl 1 rfl) ?_
        obtain ⟨v18, e17, hF⟩ := ob_s hF
        refine m_callV (As := [.int x1]) (rest := []) X hp (w_X5_nextWord e17) q1731 q1733 qs90 q144 q1734 1 rfl ds_X5_nextWord ⟨Nat.le_of_ble_eq_true rfl, Nat.le_of_ble_eq_true rfl⟩ 6 (T := TX5) (N := 40) rfl (by decide) (rR_s e4).1 hl.1 rfl (Nat.le_of_ble_eq_true rfl) dX5_goesMinute_28 ⟨Nat.le_refl 0, Nat.le_refl 0⟩ (fun H locs hp => ?_)
        refine lv_istore_n (lv' := [(2, .int v18), (0, .ref x0), (1, .int x1)]) hx hb dX5_goesMinute_31 rfl hl (by decide) rfl (fun ls hl => ?_)
        refine lv_aload_n hx hb dX5_goesMinute_32 rfl (lv_at hl 1 rfl) ?_
        refine lv_iload_n hx hb dX5_goesMinute_33 rfl (lv_at hl 2 rfl) ?_
        refine lv_bipush (v := 8) hx hb dX5_goesMinute_34 (by decide) ?_
        refine lv_iconst (v := 1) hx hb dX5_goesMinute_36 (by decide) ?_
        obtain ⟨M21, e19, hF⟩ := ob_s hF
        refine m_callV (As := [.int x1, .int (8 : Int32), .int (1 : Int32)]) (rest := []) X hp (w_X5_adds e19) q1735 q1737 qs91 q144 q1738 3 rfl ds_X5_adds ⟨Nat.le_of_ble_eq_true rfl, Nat.le_of_ble_eq_true rfl⟩ 6 (T := TX5) (N := 40) rfl (by decide) (rR_s e4).1 hl.1 rfl (Nat.le_of_ble_eq_true rfl) dX5_goesMinute_37 ⟨Nat.le_refl 0, Nat.le_refl 0⟩ (fun H locs hp => ?_)
        refine lv_iload_n hx hb dX5_goesMinute_40 rfl (lv_at hl 0 rfl) ?_
        refine lv_iconst (v := 3) hx hb dX5_goesMinute_41 (by decide) ?_
        refine lv_icmp_ge (tgt := 54) hx hb dX5_goesMinute_42 (by decide) (fun c22 => ?_) (fun c22 => ?_)
        · have hF := if_p c22 hF
          refine lv_iload_n hx hb dX5_goesMinute_54 rfl (lv_at hl 0 rfl) ?_
          refine lv_iconst (v := 3) hx hb dX5_goesMinute_55 (by decide) ?_
          refine lv_icmp_ne (tgt := 64) hx hb dX5_goesMinute_56 (by decide) (fun c23 => ?_) (fun c23 => ?_)
          · have hF := if_n c23 hF
            exact b_X5_goesMinute_64 X _ ih _ _ _ _ _ _ hp (lv_sub hl [1, 2] rfl) hF
          · have hF := if_p c23 hF
            refine lv_aload_n hx hb dX5_goesMinute_59 rfl (lv_at hl 1 rfl) ?_
            refine lv_iload_n hx hb dX5_goesMinute_60 rfl (lv_at hl 2 rfl) ?_
            obtain ⟨M26, e24, hF⟩ := ob_s hF
            refine m_callV (As := [.int x1]) (rest := []) X hp (w_X5_goesOn e24) q1758 q1760 qs96 q144 q1761 1 rfl ds_X5_goesOn ⟨Nat.le_of_ble_eq_true rfl, Nat.le_of_ble_eq_true rfl⟩ 6 (T := TX5) (N := 40) rfl (by decide) (rR_s e4).1 hl.1 rfl (Nat.le_of_ble_eq_true rfl) dX5_goesMinute_61 ⟨Nat.le_refl 0, Nat.le_refl 0⟩ (fun H locs hp => ?_)
            exact b_X5_goesMinute_64 X _ ih _ _ _ _ _ _ hp (lv_sub hl [1, 2] rfl) hF
        · have hF := if_n c22 hF
          refine lv_aload_n hx hb dX5_goesMinute_45 rfl (lv_at hl 1 rfl) ?_
          refine lv_iload_n hx hb dX5_goesMinute_46 rfl (lv_at hl 2 rfl) ?_
          refine lv_iload_n hx hb dX5_goesMinute_47 rfl (lv_at hl 0 rfl) ?_
          obtain ⟨M29, e27, hF⟩ := ob_s hF
          refine m_callV (As := [.int x1, .int v18]) (rest := []) X hp (w_X5_turnsRound e27) q1739 q1741 qs92 q144 q1742 2 rfl ds_X5_turnsRound ⟨Nat.le_of_ble_eq_true rfl, Nat.le_of_ble_eq_true rfl⟩ 6 (T := TX5) (N := 40) rfl (by decide) (rR_s e4).1 hl.1 rfl (Nat.le_of_ble_eq_true rfl) dX5_goesMinute_48 ⟨Nat.le_refl 0, Nat.le_refl 0⟩ (fun H locs hp => ?_)
          refine lv_goto (tgt := 64) hx hb dX5_goesMinute_51 (by decide) ?_
          exact b_X5_goesMinute_64 X _ ih _ _ _ _ _ _ hp (lv_sub hl [1, 2] rfl) hF
      · have hF := if_p c16 hF
        refine lv_goto (tgt := 64) hx hb dX5_goesMinute_23 (by decide) ?_
        exact b_X5_goesMinute_64 X _ ih _ _ _ _ _ _ hp (lv_sub hl [0, 1] rfl) hF
def f_X5_goesMinute (S : mSh) (M : mMm) (x0 : Nat) : Option mMm := nm ((0 : Int32)) fun v1 => (fb_X5_goesMinute_2 S FU M x0 v1)
theorem w_X5_goesMinute {x0 : Nat} {M' : mMm} (hF : f_X5_goesMinute S M x0 = some M') : mCt l D n0 P yX5_goesMinute cX5_goesMinute 3 none 7 160 0 0 [.ref x0] S M n none S M' n := by
  refine m_ofW (by decide) (Nat.le_of_ble_eq_true rfl) (fun p e s m below meth c X hnm hp ls hl => ?_)
  have hx := X.1.1
  have hb := X.1.2.1
  have hown := X.1.2.2.2.1
  have hts := X.1.2.2.2.2
  have hl : lv_has ls 3 [(0, .ref x0)] := hl
  unfold f_X5_goesMinute at hF
  refine lv_iconst (v := 0) hx hb dX5_goesMinute_0 (by decide) ?_
  refine lv_topi (fun v1 ev2 => ?_)
  have hF := nm_s hF ev2
  refine lv_istore_n (lv' := [(1, .int v1), (0, .ref x0)]) hx hb dX5_goesMinute_1 rfl hl (by decide) rfl (fun ls hl => ?_)
  exact b_X5_goesMinute_2 X _ _ _ _ _ _ _ hp (lv_sub hl [1, 0] rfl) hF
end
section
variable {l : Launch} {D : va_G} {n0 : Nat} {P : mP} {S : mSh} {M : mMm} {n : Nat} {p : Program} {e : Env} {s : State} {m : MethodId} {args : Array Value} {below : List Frame} {meth : Method} {c : Code}
abbrev Rm_X5_sumOf : Room := { frames := 1, cells := 0, slots := 0, locals := 22 }
def fb_X5_sumOf_4 (S : mSh) (M : mMm) : Nat → Nat → Int32 → Int32 → Int32 → Option Int32
  | 0, _, _, _, _ => none
  | t + 1, x0, x1, x2, x3 => ob (rR S M x0 6 1) fun v5 => ob (aI S M v5 100 (940 : Int32)) fun v7 => (if v7 ≤ x3 then some x2 else ob (f_X5_has S M x0 x3 x1) fun v11 => nm ((x2 + v11)) fun v12 => nm (x3 + (1 : Int32)) fun v14 => (fb_X5_sumOf_4 S M t x0 x1 v12 v14))
theorem b_X5_sumOf_4 {r : Int32} (X : mCx D n0 P p m c cX5_sumOf 4 s args yX5_sumOf.cls meth (some .int)) : ∀ t : Nat, ∀ (x0 : Nat) (x1 : Int32) (x2 : Int32) (x3 : Int32) (H : Heap) (locs : List Loc) (ls : Array Slot), mHp D n0 S M n s H locs → lv_has ls 4 [(0, .ref x0), (1, .int x1), (2, .int x2), (3, .int x3)] → fb_X5_sumOf_4 S M t x0 x1 x2 x3 = some r → W p l e Rm_X5_sumOf s m args below meth c H locs 0 0 (MQ below (mQ D n0 (some (.int r)) S M n) args s 0 0 (mA n0)) (F0 m 4 ls []) := by
  have hx := X.1.1
  have hb := X.1.2.1
  have hown := X.1.2.2.2.1
  have hts := X.1.2.2.2.2
  intro t
  induction t with
  | zero =>
    intro x0 x1 x2 x3 H locs ls hp hl hF
    have hF : none = some r := hF
    cases hF
  | succ t ih =>
    intro x0 x1 x2 x3 H locs ls hp hl hF
    rw [fb_X5_sumOf_4] at hF
    refine lv_iload_n hx hb dX5_sumOf_4 rfl (lv_at hl 3 rfl) ?_
    refine lv_aload_n hx hb dX5_sumOf_5 rfl (lv_at hl 0 rfl) ?_
    obtain ⟨v5, e6, hF⟩ := ob_s hF
    refine m_getR X hp e6 kX5 (Nat.le_of_ble_eq_true rfl) q1460 dX5_sumOf_6 ?_
    refine lv_sipush (v := 940) hx hb dX5_sumOf_9 (by decide) ?_
    obtain ⟨v7, e8, hF⟩ := ob_s hF
    refine m_iaI X hp e8 dX5_sumOf_12 ?_
    refine lv_icmp_ge (tgt := 31) hx hb dX5_sumOf_13 (by decide) (fun c9 => ?_) (fun c9 => ?_)
    · have hF := if_p c9 hF
      refine lv_iload_n hx hb dX5_sumOf_31 rfl (lv_at hl 2 rfl) ?_
      cases hF
      exact m_iret X hp dX5_sumOf_32
    · have hF := if_n c9 hF
      refine lv_iload_n hx hb dX5_sumOf_16 rfl (lv_at hl 2 rfl) ?_
      refine lv_aload_n hx hb dX5_sumOf_17 rfl (lv_at hl 0 rfl) ?_
      refine lv_iload_n hx hb dX5_sumOf_18 rfl (lv_at hl 3 rfl) ?_
      refine lv_iload_n hx hb dX5_sumOf_19 rfl (lv_at hl 1 rfl) ?_
      obtain ⟨v11, e10, hF⟩ := ob_s hF
      refine m_callV (As := [.int x3, .int x1]) (rest := [.int x2]) X hp (w_X5_has e10) q1727 q1729 qs89 q144 q1730 2 rfl ds_X5_has ⟨Nat.le_of_ble_eq_true rfl, Nat.le_of_ble_eq_true rfl⟩ 6 (T := TX5) (N := 40) rfl (by decide) (rR_s e6).1 hl.1 rfl (Nat.le_of_ble_eq_true rfl) dX5_sumOf_20 ⟨Nat.le_refl 0, Nat.le_refl 0⟩ (fun H locs hp => ?_)
      refine lv_iadd hx hb dX5_sumOf_23 ?_
      refine lv_topi (fun v12 ev13 => ?_)
      have hF := nm_s hF ev13
      refine lv_istore_n (lv' := [(2, .int v12), (0, .ref x0), (1, .int x1), (3, .int x3)]) hx hb dX5_sumOf_24 rfl hl (by decide) rfl (fun ls hl => ?_)
      obtain ⟨v14, ev15⟩ : ∃ y : Int32, y = x3 + (1 : Int32) := ⟨_, rfl⟩
      have hF := nm_s hF ev15
      refine lv_iinc (v := v14) (lv' := [(3, .int v14), (2, .int v12), (0, .ref x0), (1, .int x1)]) hx hb dX5_sumOf_25 hl (k := 3) rfl (by rw [ev15]; rfl) (by decide) rfl (fun ls hl => ?_)
      refine lv_goto (tgt := 4) hx hb dX5_sumOf_28 (by decide) ?_
      exact ih _ _ _ _ _ _ _ hp (lv_sub hl [2, 3, 1, 0] rfl) hF
def f_X5_sumOf (S : mSh) (M : mMm) (x0 : Nat) (x1 : Int32) : Option Int32 := nm ((0 : Int32)) fun v1 => nm ((0 : Int32)) fun v3 => (fb_X5_sumOf_4 S M FU x0 x1 v1 v3)
theorem w_X5_sumOf {x0 : Nat} {x1 : Int32} {r : Int32} (hF : f_X5_sumOf S M x0 x1 = some r) : mCt l D n0 P yX5_sumOf cX5_sumOf 4 (some .int) 1 22 0 0 [.ref x0, .int x1] S M n (some (.int r)) S M n := by
  refine m_ofW (by decide) (Nat.le_of_ble_eq_true rfl) (fun p e s m below meth c X hnm hp ls hl => ?_)
  have hx := X.1.1
  have hb := X.1.2.1
  have hown := X.1.2.2.2.1
  have hts := X.1.2.2.2.2
  have hl : lv_has ls 4 [(0, .ref x0), (1, .int x1)] := hl
  unfold f_X5_sumOf at hF
  refine lv_iconst (v := 0) hx hb dX5_sumOf_0 (by decide) ?_
  refine lv_topi (fun v1 ev2 => ?_)
  have hF := nm_s hF ev2
  refine lv_istore_n (lv' := [(2, .int v1), (0, .ref x0), (1, .int x1)]) hx hb dX5_sumOf_1 rfl hl (by decide) rfl (fun ls hl => ?_)
  refine lv_iconst (v := 0) hx hb dX5_sumOf_2 (by decide) ?_
  refine lv_topi (fun v3 ev4 => ?_)
  have hF := nm_s hF ev4
  refine lv_istore_n (lv' := [(3, .int v3), (2, .int v1), (0, .ref x0), (1, .int x1)]) hx hb dX5_sumOf_3 rfl hl (by decide) rfl (fun ls hl => ?_)
  exact b_X5_sumOf_4 X _ _ _ _ _ _ _ _ hp (lv_sub hl [2, 3, 1, 0] rfl) hF
end
section
variable {l : Launch} {D : va_G} {n0 : Nat} {P : mP} {S : mSh} {M : mMm} {n : Nat} {p : Program} {e : Env} {s : State} {m : MethodId} {args : Array Value} {below : List Frame} {meth : Method} {c : Code}
abbrev Rm_X5_goes : Room := { frames := 8, cells := 0, slots := 0, locals := 182 }
def fb_X5_goes_27 (S : mSh) : Nat → mMm → Nat → Int32 → Int32 → Int32 → Option (Int32 × mMm)
  | 0, _, _, _, _, _ => none
  | t + 1, M, x0, x1, x2, x3 => (if x1 ≤ x3 then (if x2 = 0 then gd ((S x0).1 = 6) (ob (f_X5_inside S M x0) fun v29 => some (v29, M)) else (if x2 = (1 : Int32) then gd ((S x0).1 = 6) (ob (f_X5_sumOf S M x0 (9 : Int32)) fun v26 => some (v26, M)) else (if x2 = (2 : Int32) then gd ((S x0).1 = 6) (ob (f_X5_sumOf S M x0 (10 : Int32)) fun v23 => some (v23, M)) else ob (rR S M x0 6 1) fun v17 => ob (aI S M v17 100 (937 : Int32)) fun v19 => some (v19, M)))) else gd ((S x0).1 = 6) (ob (f_X5_goesMinute S M x0) fun M33 => nm (x3 + (1 : Int32)) fun v34 => (fb_X5_goes_27 S t M33 x0 x1 x2 v34)))
theorem b_X5_goes_27 {r : Int32} {M' : mMm} (X : mCx D n0 P p m c cX5_goes 4 s args yX5_goes.cls meth (some .int)) : ∀ t : Nat, ∀ (M : mMm) (x0 : Nat) (x1 : Int32) (x2 : Int32) (x3 : Int32) (H : Heap) (locs : List Loc) (ls : Array Slot), mHp D n0 S M n s H locs → lv_has ls 4 [(0, .ref x0), (1, .int x1), (2, .int x2), (3, .int x3)] → fb_X5_goes_27 S t M x0 x1 x2 x3 = some (r, M') → W p l e Rm_X5_goes s m args below meth c H locs 0 0 (MQ below (mQ D n0 (some (.int r)) S M' n) args s 0 0 (mA n0)) (F0 m 27 ls []) := by
  have hx := X.1.1
  have hb := X.1.2.1
  have hown := X.1.2.2.2.1
  have hts := X.1.2.2.2.2
  intro t
  induction t with
  | zero =>
    intro M x0 x1 x2 x3 H locs ls hp hl hF
    have hF : none = some (r, M') := hF
    cases hF
  | succ t ih =>
    intro M x0 x1 x2 x3 H locs ls hp hl hF
    rw [fb_X5_goes_27] at hF
    refine lv_iload_n hx hb dX5_goes_27 rfl (lv_at hl 3 rfl) ?_
    refine lv_iload_n hx hb dX5_goes_28 rfl (lv_at hl 1 rfl) ?_
    refine lv_icmp_ge (tgt := 42) hx hb dX5_goes_29 (by decide) (fun c13 => ?_) (fun c13 => ?_)
    · have hF := if_p c13 hF
      refine lv_iload_n hx hb dX5_goes_42 rfl (lv_at hl 2 rfl) ?_
      refine lv_if_ne (tgt := 53) hx hb dX5_goes_43 (by decide) (fun c14 => ?_) (fun c14 => ?_)
      · have hF := if_n c14 hF
        refine lv_iload_n hx hb dX5_goes_53 rfl (lv_at hl 2 rfl) ?_
        refine lv_iconst (v := 1) hx hb dX5_goes_54 (by decide) ?_
        refine lv_icmp_ne (tgt := 67) hx hb dX5_goes_55 (by decide) (fun c15 => ?_) (fun c15 => ?_)
        · have hF := if_n c15 hF
          refine lv_iload_n hx hb dX5_goes_67 rfl (lv_at hl 2 rfl) ?_
          refine lv_iconst (v := 2) hx hb dX5_goes_68 (by decide) ?_
          refine lv_icmp_ne (tgt := 81) hx hb dX5_goes_69 (by decide) (fun c16 => ?_) (fun c16 => ?_)
          · have hF := if_n c16 hF
            refine lv_aload_n hx hb dX5_goes_81 rfl (lv_at hl 0 rfl) ?_
            obtain ⟨v17, e18, hF⟩ := ob_s hF
            refine m_getR X hp e18 kX5 (Nat.le_of_ble_eq_true rfl) q1460 dX5_goes_82 ?_
            refine lv_sipush (v := 937) hx hb dX5_goes_85 (by decide) ?_
            obtain ⟨v19, e20, hF⟩ := ob_s hF
            refine m_iaI X hp e20 dX5_goes_88 ?_
            cases hF
            exact m_iret X hp dX5_goes_89
          · have hF := if_p c16 hF
            refine lv_aload_n hx hb dX5_goes_72 rfl (lv_at hl 0 rfl) ?_
            refine lv_bipush (v := 10) hx hb dX5_goes_73 (by decide) ?_
            obtain ⟨g21, hF⟩ := gd_s hF
            obtain ⟨v23, e22, hF⟩ := ob_s hF
            refine m_callV (As := [.int (10 : Int32)]) (rest := []) X hp (w_X5_sumOf e22) q1831 q1833 qs110 q144 q1834 1 rfl ds_X5_sumOf ⟨Nat.le_of_ble_eq_true rfl, Nat.le_of_ble_eq_true rfl⟩ 6 (T := TX5) (N := 40) rfl (by decide) g21 hl.1 rfl (Nat.le_of_ble_eq_true rfl) dX5_goes_75 ⟨Nat.le_refl 0, Nat.le_refl 0⟩ (fun H locs hp => ?_)
            refine lv_goto (tgt := 89) hx hb dX5_goes_78 (by decide) ?_
            cases hF
            exact m_iret X hp dX5_goes_89
        · have hF := if_p c15 hF
          refine lv_aload_n hx hb dX5_goes_58 rfl (lv_at hl 0 rfl) ?_
          refine lv_bipush (v := 9) hx hb dX5_goes_59 (by decide) ?_
          obtain ⟨g24, hF⟩ := gd_s hF
          obtain ⟨v26, e25, hF⟩ := ob_s hF
          refine m_callV (As := [.int (9 : Int32)]) (rest := []) X hp (w_X5_sumOf e25) q1831 q1833 qs110 q144 q1834 1 rfl ds_X5_sumOf ⟨Nat.le_of_ble_eq_true rfl, Nat.le_of_ble_eq_true rfl⟩ 6 (T := TX5) (N := 40) rfl (by decide) g24 hl.1 rfl (Nat.le_of_ble_eq_true rfl) dX5_goes_61 ⟨Nat.le_refl 0, Nat.le_refl 0⟩ (fun H locs hp => ?_)
          refine lv_goto (tgt := 89) hx hb dX5_goes_64 (by decide) ?_
          cases hF
          exact m_iret X hp dX5_goes_89
      · have hF := if_p c14 hF
        refine lv_aload_n hx hb dX5_goes_46 rfl (lv_at hl 0 rfl) ?_
        obtain ⟨g27, hF⟩ := gd_s hF
        obtain ⟨v29, e28, hF⟩ := ob_s hF
        refine m_callV (As := []) (rest := []) X hp (w_X5_inside e28) q1787 q1789 qs101 q144 q1790 0 rfl ds_X5_inside ⟨Nat.le_of_ble_eq_true rfl, Nat.le_of_ble_eq_true rfl⟩ 6 (T := TX5) (N := 40) rfl (by decide) g27 hl.1 rfl (Nat.le_of_ble_eq_true rfl) dX5_goes_47 ⟨Nat.le_refl 0, Nat.le_refl 0⟩ (fun H locs hp => ?_)
        refine lv_goto (tgt := 89) hx hb dX5_goes_50 (by decide) ?_
        cases hF
        exact m_iret X hp dX5_goes_89
    · have hF := if_n c13 hF
      refine lv_aload_n hx hb dX5_goes_32 rfl (lv_at hl 0 rfl) ?_
      obtain ⟨g30, hF⟩ := gd_s hF
      obtain ⟨M33, e31, hF⟩ := ob_s hF
      refine m_callV (As := []) (rest := []) X hp (w_X5_goesMinute e31) q1723 q1725 qs88 q144 q1726 0 rfl ds_X5_goesMinute ⟨Nat.le_of_ble_eq_true rfl, Nat.le_of_ble_eq_true rfl⟩ 6 (T := TX5) (N := 40) rfl (by decide) g30 hl.1 rfl (Nat.le_of_ble_eq_true rfl) dX5_goes_33 ⟨Nat.le_refl 0, Nat.le_refl 0⟩ (fun H locs hp => ?_)
      obtain ⟨v34, ev35⟩ : ∃ y : Int32, y = x3 + (1 : Int32) := ⟨_, rfl⟩
      have hF := nm_s hF ev35
      refine lv_iinc (v := v34) (lv' := [(3, .int v34), (0, .ref x0), (1, .int x1), (2, .int x2)]) hx hb dX5_goes_36 hl (k := 3) rfl (by rw [ev35]; rfl) (by decide) rfl (fun ls hl => ?_)
      refine lv_goto (tgt := 27) hx hb dX5_goes_39 (by decide) ?_
      exact ih _ _ _ _ _ _ _ _ hp (lv_sub hl [1, 2, 3, 0] rfl) hF
def f_X5_goes (S : mSh) (M : mMm) (x0 : Nat) (x1 : Int32) (x2 : Int32) : Option (Int32 × mMm) := ob (f_X5_within x1 (1 : Int32) (60 : Int32)) fun v2 => (if v2 = 0 then some ((-1 : Int32), M) else ob (f_X5_within x2 (0 : Int32) (3 : Int32)) fun v5 => (if v5 = 0 then some ((-1 : Int32), M) else gd ((S x0).1 = 6) (ob (f_X5_take S M x0) fun M10 => nm ((0 : Int32)) fun v11 => (fb_X5_goes_27 S FU M10 x0 x1 x2 v11))))
theorem w_X5_goes {x0 : Nat} {x1 : Int32} {x2 : Int32} {r : Int32} {M' : mMm} (hF : f_X5_goes S M x0 x1 x2 = some (r, M')) : mCt l D n0 P yX5_goes cX5_goes 4 (some .int) 8 182 0 0 [.ref x0, .int x1, .int x2] S M n (some (.int r)) S M' n := by
  refine m_ofW (by decide) (Nat.le_of_ble_eq_true rfl) (fun p e s m below meth c X hnm hp ls hl => ?_)
  have hx := X.1.1
  have hb := X.1.2.1
  have hown := X.1.2.2.2.1
  have hts := X.1.2.2.2.2
  have hl : lv_has ls 4 [(0, .ref x0), (1, .int x1), (2, .int x2)] := hl
  unfold f_X5_goes at hF
  refine lv_iload_n hx hb dX5_goes_0 rfl (lv_at hl 1 rfl) ?_
  refine lv_iconst (v := 1) hx hb dX5_goes_1 (by decide) ?_
  refine lv_bipush (v := 60) hx hb dX5_goes_2 (by decide) ?_
  obtain ⟨v2, e1, hF⟩ := ob_s hF
  refine m_callS (As := [.int x1, .int (1 : Int32), .int (60 : Int32)]) (rest := []) X hp (w_X5_within e1) q1588 q1589 q144 q1590 3 rfl ds_X5_within ⟨Nat.le_of_ble_eq_true rfl, Nat.le_of_ble_eq_true rfl⟩ hl.1 rfl (Nat.le_of_ble_eq_true rfl) dX5_goes_4 ⟨Nat.le_refl 0, Nat.le_refl 0⟩ (fun H locs hp => ?_)
  refine lv_if_eq (tgt := 19) hx hb dX5_goes_7 (by decide) (fun c3 => ?_) (fun c3 => ?_)
  · have hF := if_p c3 hF
    refine lv_iconst (v := -1) hx hb dX5_goes_19 (by decide) ?_
    cases hF
    exact m_iret X hp dX5_goes_20
  · have hF := if_n c3 hF
    refine lv_iload_n hx hb dX5_goes_10 rfl (lv_at hl 2 rfl) ?_
    refine lv_iconst (v := 0) hx hb dX5_goes_11 (by decide) ?_
    refine lv_iconst (v := 3) hx hb dX5_goes_12 (by decide) ?_
    obtain ⟨v5, e4, hF⟩ := ob_s hF
    refine m_callS (As := [.int x2, .int (0 : Int32), .int (3 : Int32)]) (rest := []) X hp (w_X5_within e4) q1588 q1589 q144 q1590 3 rfl ds_X5_within ⟨Nat.le_of_ble_eq_true rfl, Nat.le_of_ble_eq_true rfl⟩ hl.1 rfl (Nat.le_of_ble_eq_true rfl) dX5_goes_13 ⟨Nat.le_refl 0, Nat.le_refl 0⟩ (fun H locs hp => ?_)
    refine lv_if_ne (tgt := 21) hx hb dX5_goes_16 (by decide) (fun c6 => ?_) (fun c6 => ?_)
    · have hF := if_n c6 hF
      refine lv_aload_n hx hb dX5_goes_21 rfl (lv_at hl 0 rfl) ?_
      obtain ⟨g7, hF⟩ := gd_s hF
      obtain ⟨M10, e8, hF⟩ := ob_s hF
      refine m_callV (As := []) (rest := []) X hp (w_X5_take e8) q1871 q1873 qs112 q144 q1874 0 rfl ds_X5_take ⟨Nat.le_of_ble_eq_true rfl, Nat.le_of_ble_eq_true rfl⟩ 6 (T := TX5) (N := 40) rfl (by decide) g7 hl.1 rfl (Nat.le_of_ble_eq_true rfl) dX5_goes_22 ⟨Nat.le_refl 0, Nat.le_refl 0⟩ (fun H locs hp => ?_)
      refine lv_iconst (v := 0) hx hb dX5_goes_25 (by decide) ?_
      refine lv_topi (fun v11 ev12 => ?_)
      have hF := nm_s hF ev12
      refine lv_istore_n (lv' := [(3, .int v11), (0, .ref x0), (1, .int x1), (2, .int x2)]) hx hb dX5_goes_26 rfl hl (by decide) rfl (fun ls hl => ?_)
      exact b_X5_goes_27 X _ _ _ _ _ _ _ _ _ hp (lv_sub hl [1, 2, 3, 0] rfl) hF
    · have hF := if_p c6 hF
      refine lv_iconst (v := -1) hx hb dX5_goes_19 (by decide) ?_
      cases hF
      exact m_iret X hp dX5_goes_20
end
section
variable {l : Launch} {D : va_G} {n0 : Nat} {P : mP} {S : mSh} {M : mMm} {n : Nat} {p : Program} {e : Env} {s : State} {m : MethodId} {args : Array Value} {below : List Frame} {meth : Method} {c : Code}
abbrev Rm_X5_goesAlone : Room := { frames := 2, cells := 0, slots := 0, locals := 46 }
def fb_X5_goesAlone_35 (S : mSh) (M : mMm) (x0 : Nat) (x1 : Int32) (x2 : Int32) : Option mMm := (if x2 = (3 : Int32) then gd ((S x0).1 = 6) (ob (f_X5_has S M x0 x1 (2 : Int32)) fun v18 => ob (f_X5_has S M x0 x1 (4 : Int32)) fun v20 => ob (f_X5_goesX v20) fun v22 => nm ((v18 + v22)) fun v23 => ob (f_X5_has S M x0 x1 (3 : Int32)) fun v26 => ob (f_X5_has S M x0 x1 (4 : Int32)) fun v28 => ob (f_X5_goesY v28) fun v30 => nm ((v26 + v30)) fun v31 => ob (f_X5_isIn v23 v31) fun v34 => (if v34 = 0 then ob (f_X5_sets S M x0 x1 (1 : Int32) (0 : Int32)) fun M51 => some M51 else ob (rR S M x0 6 1) fun v36 => ob (f_X5_place v23 v31) fun v39 => ob (aI S M v36 100 v39) fun v40 => (if v40 = (1 : Int32) then some M else ob (f_X5_sets S M x0 x1 (2 : Int32) v23) fun M45 => ob (f_X5_sets S M45 x0 x1 (3 : Int32) v31) fun M48 => some M48))) else some M)
theorem b_X5_goesAlone_35 {M' : mMm} (X : mCx D n0 P p m c cX5_goesAlone 5 s args yX5_goesAlone.cls meth none) : ∀ (M : mMm) (x0 : Nat) (x1 : Int32) (x2 : Int32) (H : Heap) (locs : List Loc) (ls : Array Slot), mHp D n0 S M n s H locs → lv_has ls 5 [(0, .ref x0), (1, .int x1), (2, .int x2)] → fb_X5_goesAlone_35 S M x0 x1 x2 = some M' → W p l e Rm_X5_goesAlone s m args below meth c H locs 0 0 (MQ below (mQ D n0 none S M' n) args s 0 0 (mA n0)) (F0 m 35 ls []) := by
  have hx := X.1.1
  have hb := X.1.2.1
  have hown := X.1.2.2.2.1
  have hts := X.1.2.2.2.2
  intro M x0 x1 x2 H locs ls hp hl hF
  unfold fb_X5_goesAlone_35 at hF
  refine lv_iload_n hx hb dX5_goesAlone_35 rfl (lv_at hl 2 rfl) ?_
  refine lv_iconst (v := 3) hx hb dX5_goesAlone_36 (by decide) ?_
  refine lv_icmp_eq (tgt := 41) hx hb dX5_goesAlone_37 (by decide) (fun c15 => ?_) (fun c15 => ?_)
  · have hF := if_p c15 hF
    refine lv_aload_n hx hb dX5_goesAlone_41 rfl (lv_at hl 0 rfl) ?_
    refine lv_iload_n hx hb dX5_goesAlone_42 rfl (lv_at hl 1 rfl) ?_
    refine lv_iconst (v := 2) hx hb dX5_goesAlone_43 (by decide) ?_
    obtain ⟨g16, hF⟩ := gd_s hF
    obtain ⟨v18, e17, hF⟩ := ob_s hF
    refine m_callV (As := [.int x1, .int (2 : Int32)]) (rest := []) X hp (w_X5_has e17) q1727 q1729 qs89 q144 q1730 2 rfl ds_X5_has ⟨Nat.le_of_ble_eq_true rfl, Nat.le_of_ble_eq_true rfl⟩ 6 (T := TX5) (N := 40) rfl (by decide) g16 hl.1 rfl (Nat.le_of_ble_eq_true rfl) dX5_goesAlone_44 ⟨Nat.le_refl 0, Nat.le_refl 0⟩ (fun H locs hp => ?_)
    refine lv_aload_n hx hb dX5_goesAlone_47 rfl (lv_at hl 0 rfl) ?_
    refine lv_iload_n hx hb dX5_goesAlone_48 rfl (lv_at hl 1 rfl) ?_
    refine lv_iconst (v := 4) hx hb dX5_goesAlone_49 (by decide) ?_
    obtain ⟨v20, e19, hF⟩ := ob_s hF
    refine m_callV (As := [.int x1, .int (4 : Int32)]) (rest := [.int v18]) X hp (w_X5_has e19) q1727 q1729 qs89 q144 q1730 2 rfl ds_X5_has ⟨Nat.le_of_ble_eq_true rfl, Nat.le_of_ble_eq_true rfl⟩ 6 (T := TX5) (N := 40) rfl (by decide) g16 hl.1 rfl (Nat.le_of_ble_eq_true rfl) dX5_goesAlone_50 ⟨Nat.le_refl 0, Nat.le_refl 0⟩ (fun H locs hp => ?_)
    obtain ⟨v22, e21, hF⟩ := ob_s hF
    refine m_callS (As := [.int v20]) (rest := [.int v18]) X hp (w_X5_goesX e21) q1762 q1763 q144 q1764 1 rfl ds_X5_goesX ⟨Nat.le_of_ble_eq_true rfl, Nat.le_of_ble_eq_true rfl⟩ hl.1 rfl (Nat.le_of_ble_eq_true rfl) dX5_goesAlone_53 ⟨Nat.le_refl 0, Nat.le_refl 0⟩ (fun H locs hp => ?_)
    refine lv_iadd hx hb dX5_goesAlone_56 ?_
    refine lv_topi (fun v23 ev24 => ?_)
    have hF := nm_s hF ev24
    refine lv_istore_n (lv' := [(3, .int v23), (0, .ref x0), (1, .int x1), (2, .int x2)]) hx hb dX5_goesAlone_57 rfl hl (by decide) rfl (fun ls hl => ?_)
    refine lv_aload_n hx hb dX5_goesAlone_58 rfl (lv_at hl 1 rfl) ?_
    refine lv_iload_n hx hb dX5_goesAlone_59 rfl (lv_at hl 2 rfl) ?_
    refine lv_iconst (v := 3) hx hb dX5_goesAlone_60 (by decide) ?_
    obtain ⟨v26, e25, hF⟩ := ob_s hF
    refine m_callV (As := [.int x1, .int (3 : Int32)]) (rest := []) X hp (w_X5_has e25) q1727 q1729 qs89 q144 q1730 2 rfl ds_X5_has ⟨Nat.le_of_ble_eq_true rfl, Nat.le_of_ble_eq_true rfl⟩ 6 (T := TX5) (N := 40) rfl (by decide) g16 hl.1 rfl (Nat.le_of_ble_eq_true rfl) dX5_goesAlone_61 ⟨Nat.le_refl 0, Nat.le_refl 0⟩ (fun H locs hp => ?_)
    refine lv_aload_n hx hb dX5_goesAlone_64 rfl (lv_at hl 1 rfl) ?_
    refine lv_iload_n hx hb dX5_goesAlone_65 rfl (lv_at hl 2 rfl) ?_
    refine lv_iconst (v := 4) hx hb dX5_goesAlone_66 (by decide) ?_
    obtain ⟨v28, e27, hF⟩ := ob_s hF
    refine m_callV (As := [.int x1, .int (4 : Int32)]) (rest := [.int v26]) X hp (w_X5_has e27) q1727 q1729 qs89 q144 q1730 2 rfl ds_X5_has ⟨Nat.le_of_ble_eq_true rfl, Nat.le_of_ble_eq_true rfl⟩ 6 (T := TX5) (N := 40) rfl (by decide) g16 hl.1 rfl (Nat.le_of_ble_eq_true rfl) dX5_goesAlone_67 ⟨Nat.le_refl 0, Nat.le_refl 0⟩ (fun H locs hp => ?_)
    obtain ⟨v30, e29, hF⟩ := ob_s hF
    refine m_callS (As := [.int v28]) (rest := [.int v26]) X hp (w_X5_goesY e29) q1765 q1766 q144 q1767 1 rfl ds_X5_goesY ⟨Nat.le_of_ble_eq_true rfl, Nat.le_of_ble_eq_true rfl⟩ hl.1 rfl (Nat.le_of_ble_eq_true rfl) dX5_goesAlone_70 ⟨Nat.le_refl 0, Nat.le_refl 0⟩ (fun H locs hp => ?_)
    refine lv_iadd hx hb dX5_goesAlone_73 ?_
    refine lv_topi (fun v31 ev32 => ?_)
    have hF := nm_s hF ev32
    refine lv_istore (lv' := [(4, .int v31), (3, .int v23), (0, .ref x0), (1, .int x1), (2, .int x2)]) hx hb dX5_goesAlone_74 hl (by decide) rfl (fun ls hl => ?_)
    refine lv_iload_n hx hb dX5_goesAlone_76 rfl (lv_at hl 1 rfl) ?_
    refine lv_iload hx hb dX5_goesAlone_77 (lv_at hl 0 rfl) ?_
    obtain ⟨v34, e33, hF⟩ := ob_s hF
    refine m_callS (As := [.int v23, .int v31]) (rest := []) X hp (w_X5_isIn e33) q1768 q1769 q144 q1770 2 rfl ds_X5_isIn ⟨Nat.le_of_ble_eq_true rfl, Nat.le_of_ble_eq_true rfl⟩ hl.1 rfl (Nat.le_of_ble_eq_true rfl) dX5_goesAlone_79 ⟨Nat.le_refl 0, Nat.le_refl 0⟩ (fun H locs hp => ?_)
    refine lv_if_ne (tgt := 95) hx hb dX5_goesAlone_82 (by decide) (fun c35 => ?_) (fun c35 => ?_)
    · have hF := if_n c35 hF
      refine lv_aload_n hx hb dX5_goesAlone_95 rfl (lv_at hl 2 rfl) ?_
      obtain ⟨v36, e37, hF⟩ := ob_s hF
      refine m_getR X hp e37 kX5 (Nat.le_of_ble_eq_true rfl) q1460 dX5_goesAlone_96 ?_
      refine lv_iload_n hx hb dX5_goesAlone_99 rfl (lv_at hl 1 rfl) ?_
      refine lv_iload hx hb dX5_goesAlone_100 (lv_at hl 0 rfl) ?_
      obtain ⟨v39, e38, hF⟩ := ob_s hF
      refine m_callS (As := [.int v23, .int v31]) (rest := [.ref v36]) X hp (w_X5_place e38) q1708 q1709 q144 q1710 2 rfl ds_X5_place ⟨Nat.le_of_ble_eq_true rfl, Nat.le_of_ble_eq_true rfl⟩ hl.1 rfl (Nat.le_of_ble_eq_true rfl) dX5_goesAlone_102 ⟨Nat.le_refl 0, Nat.le_refl 0⟩ (fun H locs hp => ?_)
      obtain ⟨v40, e41, hF⟩ := ob_s hF
      refine m_iaI X hp e41 dX5_goesAlone_105 ?_
      refine lv_iconst (v := 1) hx hb dX5_goesAlone_106 (by decide) ?_
      refine lv_icmp_eq (tgt := 125) hx hb dX5_goesAlone_107 (by decide) (fun c42 => ?_) (fun c42 => ?_)
      · have hF := if_p c42 hF
        cases hF
        exact m_vret X hp dX5_goesAlone_125
      · have hF := if_n c42 hF
        refine lv_aload_n hx hb dX5_goesAlone_110 rfl (lv_at hl 2 rfl) ?_
        refine lv_iload_n hx hb dX5_goesAlone_111 rfl (lv_at hl 3 rfl) ?_
        refine lv_iconst (v := 2) hx hb dX5_goesAlone_112 (by decide) ?_
        refine lv_iload_n hx hb dX5_goesAlone_113 rfl (lv_at hl 1 rfl) ?_
        obtain ⟨M45, e43, hF⟩ := ob_s hF
        refine m_callV (As := [.int x1, .int (2 : Int32), .int v23]) (rest := []) X hp (w_X5_sets e43) q1746 q1748 qs93 q144 q1749 3 rfl ds_X5_sets ⟨Nat.le_of_ble_eq_true rfl, Nat.le_of_ble_eq_true rfl⟩ 6 (T := TX5) (N := 40) rfl (by decide) (rR_s e37).1 hl.1 rfl (Nat.le_of_ble_eq_true rfl) dX5_goesAlone_114 ⟨Nat.le_refl 0, Nat.le_refl 0⟩ (fun H locs hp => ?_)
        refine lv_aload_n hx hb dX5_goesAlone_117 rfl (lv_at hl 2 rfl) ?_
        refine lv_iload_n hx hb dX5_goesAlone_118 rfl (lv_at hl 3 rfl) ?_
        refine lv_iconst (v := 3) hx hb dX5_goesAlone_119 (by decide) ?_
        refine lv_iload hx hb dX5_goesAlone_120 (lv_at hl 0 rfl) ?_
        obtain ⟨M48, e46, hF⟩ := ob_s hF
        refine m_callV (As := [.int x1, .int (3 : Int32), .int v31]) (rest := []) X hp (w_X5_sets e46) q1746 q1748 qs93 q144 q1749 3 rfl ds_X5_sets ⟨Nat.le_of_ble_eq_true rfl, Nat.le_of_ble_eq_true rfl⟩ 6 (T := TX5) (N := 40) rfl (by decide) (rR_s e37).1 hl.1 rfl (Nat.le_of_ble_eq_true rfl) dX5_goesAlone_122 ⟨Nat.le_refl 0, Nat.le_refl 0⟩ (fun H locs hp => ?_)
        cases hF
        exact m_vret X hp dX5_goesAlone_125
    · have hF := if_p c35 hF
      refine lv_aload_n hx hb dX5_goesAlone_85 rfl (lv_at hl 2 rfl) ?_
      refine lv_iload_n hx hb dX5_goesAlone_86 rfl (lv_at hl 3 rfl) ?_
      refine lv_iconst (v := 1) hx hb dX5_goesAlone_87 (by decide) ?_
      refine lv_iconst (v := 0) hx hb dX5_goesAlone_88 (by decide) ?_
      obtain ⟨M51, e49, hF⟩ := ob_s hF
      refine m_callV (As := [.int x1, .int (1 : Int32), .int (0 : Int32)]) (rest := []) X hp (w_X5_sets e49) q1746 q1748 qs93 q144 q1749 3 rfl ds_X5_sets ⟨Nat.le_of_ble_eq_true rfl, Nat.le_of_ble_eq_true rfl⟩ 6 (T := TX5) (N := 40) rfl (by decide) g16 hl.1 rfl (Nat.le_of_ble_eq_true rfl) dX5_goesAlone_89 ⟨Nat.le_refl 0, Nat.le_refl 0⟩ (fun H locs hp => ?_)
      refine lv_goto (tgt := 125) hx hb dX5_goesAlone_92 (by decide) ?_
      cases hF
      exact m_vret X hp dX5_goesAlone_125
  · have hF := if_n c15 hF
    cases hF
    exact m_vret X hp dX5_goesAlone_40
def f_X5_goesAlone (S : mSh) (M : mMm) (x0 : Nat) (x1 : Int32) : Option mMm := gd ((S x0).1 = 6) (ob (f_X5_nextWord S M x0 x1) fun v3 => ob (f_X5_adds S M x0 x1 (8 : Int32) (1 : Int32)) fun M6 => (if (3 : Int32) ≤ v3 then (fb_X5_goesAlone_35 S M6 x0 x1 v3) else ob (f_X5_has S M6 x0 x1 (4 : Int32)) fun v9 => ob (f_X5_turned v9 v3) fun v11 => ob (f_X5_sets S M6 x0 x1 (4 : Int32) v11) fun M14 => (fb_X5_goesAlone_35 S M14 x0 x1 v3)))
theorem w_X5_goesAlone {x0 : Nat} {x1 : Int32} {M' : mMm} (hF : f_X5_goesAlone S M x0 x1 = some M') : mCt l D n0 P yX5_goesAlone cX5_goesAlone 5 none 2 46 0 0 [.ref x0, .int x1] S M n none S M' n := by
  refine m_ofW (by decide) (Nat.le_of_ble_eq_true rfl) (fun p e s m below meth c X hnm hp ls hl => ?_)
  have hx := X.1.1
  have hb := X.1.2.1
  have hown := X.1.2.2.2.1
  have hts := X.1.2.2.2.2
  have hl : lv_has ls 5 [(0, .ref x0), (1, .int x1)] := hl
  unfold f_X5_goesAlone at hF
  refine lv_aload_n hx hb dX5_goesAlone_0 rfl (lv_at hl 0 rfl) ?_
  refine lv_iload_n hx hb dX5_goesAlone_1 rfl (lv_at hl 1 rfl) ?_
  obtain ⟨g1, hF⟩ := gd_s hF
  obtain ⟨v3, e2, hF⟩ := ob_s hF
  refine m_callV (As := [.int x1]) (rest := []) X hp (w_X5_nextWord e2) q1731 q1733 qs90 q144 q1734 1 rfl ds_X5_nextWord ⟨Nat.le_of_ble_eq_true rfl, Nat.le_of_ble_eq_true rfl⟩ 6 (T := TX5) (N := 40) rfl (by decide) g1 hl.1 rfl (Nat.le_of_ble_eq_true rfl) dX5_goesAlone_2 ⟨Nat.le_refl 0, Nat.le_refl 0⟩ (fun H locs hp => ?_)
  refine lv_istore_n (lv' := [(2, .int v3), (0, .ref x0), (1, .int x1)]) hx hb dX5_goesAlone_5 rfl hl (by decide) rfl (fun ls hl => ?_)
  refine lv_aload_n hx hb dX5_goesAlone_6 rfl (lv_at hl 1 rfl) ?_
  refine lv_iload_n hx hb dX5_goesAlone_7 rfl (lv_at hl 2 rfl) ?_
  refine lv_bipush (v := 8) hx hb dX5_goesAlone_8 (by decide) ?_
  refine lv_iconst (v := 1) hx hb dX5_goesAlone_10 (by decide) ?_
  obtain ⟨M6, e4, hF⟩ := ob_s hF
  refine m_callV (As := [.int x1, .int (8 : Int32), .int (1 : Int32)]) (rest := []) X hp (w_X5_adds e4) q1735 q1737 qs91 q144 q1738 3 rfl ds_X5_adds ⟨Nat.le_of_ble_eq_true rfl, Nat.le_of_ble_eq_true rfl⟩ 6 (T := TX5) (N := 40) rfl (by decide) g1 hl.1 rfl (Nat.le_of_ble_eq_true rfl) dX5_goesAlone_11 ⟨Nat.le_refl 0, Nat.le_refl 0⟩ (fun H locs hp => ?_)
  refine lv_iload_n hx hb dX5_goesAlone_14 rfl (lv_at hl 0 rfl) ?_
  refine lv_iconst (v := 3) hx hb dX5_goesAlone_15 (by decide) ?_
  refine lv_icmp_ge (tgt := 35) hx hb dX5_goesAlone_16 (by decide) (fun c7 => ?_) (fun c7 => ?_)
  · have hF := if_p c7 hF
    exact b_X5_goesAlone_35 X _ _ _ _ _ _ _ hp (lv_sub hl [1, 2, 0] rfl) hF
  · have hF := if_n c7 hF
    refine lv_aload_n hx hb dX5_goesAlone_19 rfl (lv_at hl 1 rfl) ?_
    refine lv_iload_n hx hb dX5_goesAlone_20 rfl (lv_at hl 2 rfl) ?_
    refine lv_iconst (v := 4) hx hb dX5_goesAlone_21 (by decide) ?_
    refine lv_aload_n hx hb dX5_goesAlone_22 rfl (lv_at hl 1 rfl) ?_
    refine lv_iload_n hx hb dX5_goesAlone_23 rfl (lv_at hl 2 rfl) ?_
    refine lv_iconst (v := 4) hx hb dX5_goesAlone_24 (by decide) ?_
    obtain ⟨v9, e8, hF⟩ := ob_s hF
    refine m_callV (As := [.int x1, .int (4 : Int32)]) (rest := [.int (4 : Int32), .int x1, .ref x0]) X hp (w_X5_has e8) q1727 q1729 qs89 q144 q1730 2 rfl ds_X5_has ⟨Nat.le_of_ble_eq_true rfl, Nat.le_of_ble_eq_true rfl⟩ 6 (T := TX5) (N := 40) rfl (by decide) g1 hl.1 rfl (Nat.le_of_ble_eq_true rfl) dX5_goesAlone_25 ⟨Nat.le_refl 0, Nat.le_refl 0⟩ (fun H locs hp => ?_)
    refine lv_iload_n hx hb dX5_goesAlone_28 rfl (lv_at hl 0 rfl) ?_
    obtain ⟨v11, e10, hF⟩ := ob_s hF
    refine m_callS (As := [.int v9, .int v3]) (rest := [.int (4 : Int32), .int x1, .ref x0]) X hp (w_X5_turned e10) q1743 q1744 q144 q1745 2 rfl ds_X5_turned ⟨Nat.le_of_ble_eq_true rfl, Nat.le_of_ble_eq_true rfl⟩ hl.1 rfl (Nat.le_of_ble_eq_true rfl) dX5_goesAlone_29 ⟨Nat.le_refl 0, Nat.le_refl 0⟩ (fun H locs hp => ?_)
    obtain ⟨M14, e12, hF⟩ := ob_s hF
    refine m_callV (As := [.int x1, .int (4 : Int32), .int v11]) (rest := []) X hp (w_X5_sets e12) q1746 q1748 qs93 q144 q1749 3 rfl ds_X5_sets ⟨Nat.le_of_ble_eq_true rfl, Nat.le_of_ble_eq_true rfl⟩ 6 (T := TX5) (N := 40) rfl (by decide) g1 hl.1 rfl (Nat.le_of_ble_eq_true rfl) dX5_goesAlone_32 ⟨Nat.le_refl 0, Nat.le_refl 0⟩ (fun H locs hp => ?_)
    exact b_X5_goesAlone_35 X _ _ _ _ _ _ _ hp (lv_sub hl [1, 2, 0] rfl) hF
end
section
variable {l : Launch} {D : va_G} {n0 : Nat} {P : mP} {S : mSh} {M : mMm} {n : Nat} {p : Program} {e : Env} {s : State} {m : MethodId} {args : Array Value} {below : List Frame} {meth : Method} {c : Code}
abbrev Rm_X5_here : Room := { frames := 0, cells := 0, slots := 0, locals := 0 }
def fb_X5_here_39 (S : mSh) (k0 : mMm → Nat → Option (Int32 × mMm)) (M : mMm) (x0 : Nat) : Option (Int32 × mMm) := ob (rI S M x0 6 9) fun v20 => ob (wF S M x0 6 9 (.int (v20 + (1 : Int32)))) fun M22 => (k0 M22 x0)
theorem b_X5_here_39 {r : Int32} {M' : mMm} (X : mCx D n0 P p m c cX5_here 1 s args yX5_here.cls meth (some .int)) (k0 : mMm → Nat → Option (Int32 × mMm)) (hk0 : ∀ (M : mMm) (x0 : Nat) (H : Heap) (locs : List Loc) (ls : Array Slot), mHp D n0 S M n s H locs → lv_has ls 1 [(0, .ref x0)] → k0 M x0 = some (r, M') → W p l e Rm_X5_here s m args below meth c H locs 0 0 (MQ below (mQ D n0 (some (.int r)) S M' n) args s 0 0 (mA n0)) (F0 m 0 ls [])) : ∀ (M : mMm) (x0 : Nat) (H : Heap) (locs : List Loc) (ls : Array Slot), mHp D n0 S M n s H locs → lv_has ls 1 [(0, .ref x0)] → fb_X5_here_39 S k0 M x0 = some (r, M') → W p l e Rm_X5_here s m args below meth c H locs 0 0 (MQ below (mQ D n0 (some (.int r)) S M' n) args s 0 0 (mA n0)) (F0 m 39 ls []) := by
  have hx := X.1.1
  have hb := X.1.2.1
  have hown := X.1.2.2.2.1
  have hts := X.1.2.2.2.2
  intro M x0 H locs ls hp hl hF
  unfold fb_X5_here_39 at hF
  refine lv_aload_n hx hb dX5_here_39 rfl (lv_at hl 0 rfl) ?_
  refine lv_dup hx hb dX5_here_40 rfl ?_
  obtain ⟨v20, e21, hF⟩ := ob_s hF
  refine m_getI X hp e21 kX5 (Nat.le_of_ble_eq_true rfl) q1468 dX5_here_41 ?_
  refine lv_iconst (v := 1) hx hb dX5_here_44 (by decide) ?_
  refine lv_iadd hx hb dX5_here_45 ?_
  obtain ⟨M22, e23, hF⟩ := ob_s hF
  refine m_putW X hp e23 kX5 (Nat.le_of_ble_eq_true rfl) q1468 rfl rfl rfl dX5_here_46 (fun H locs hp => ?_)
  refine lv_goto (tgt := 0) hx hb dX5_here_49 (by decide) ?_
  exact hk0 _ _ _ _ _ hp (lv_sub hl [0] rfl) hF
def fb_X5_here_52 (S : mSh) (M : mMm) (x0 : Nat) : Option (Int32 × mMm) := ob (rI S M x0 6 9) fun v24 => ob (rI S M x0 6 8) fun v26 => (if v26 ≤ v24 then some ((0 : Int32), M) else ob (rR S M x0 6 15) fun v29 => ob (rI S M x0 6 9) fun v31 => ob (aI S M v29 100 v31) fun v33 => some (v33, M))
theorem b_X5_here_52 {r : Int32} {M' : mMm} (X : mCx D n0 P p m c cX5_here 1 s args yX5_here.cls meth (some .int)) : ∀ (M : mMm) (x0 : Nat) (H : Heap) (locs : List Loc) (ls : Array Slot), mHp D n0 S M n s H locs → lv_has ls 1 [(0, .ref x0)] → fb_X5_here_52 S M x0 = some (r, M') → W p l e Rm_X5_here s m args below meth c H locs 0 0 (MQ below (mQ D n0 (some (.int r)) S M' n) args s 0 0 (mA n0)) (F0 m 52 ls []) := by
  have hx := X.1.1
  have hb := X.1.2.1
  have hown := X.1.2.2.2.1
  have hts := X.1.2.2.2.2
  intro M x0 H locs ls hp hl hF
  unfold fb_X5_here_52 at hF
  refine lv_aload_n hx hb dX5_here_52 rfl (lv_at hl 0 rfl) ?_
  obtain ⟨v24, e25, hF⟩ := ob_s hF
  refine m_getI X hp e25 kX5 (Nat.le_of_ble_eq_true rfl) q1468 dX5_here_53 ?_
  refine lv_aload_n hx hb dX5_here_56 rfl (lv_at hl 0 rfl) ?_
  obtain ⟨v26, e27, hF⟩ := ob_s hF
  refine m_getI X hp e27 kX5 (Nat.le_of_ble_eq_true rfl) q1467 dX5_here_57 ?_
  refine lv_icmp_ge (tgt := 75) hx hb dX5_here_60 (by decide) (fun c28 => ?_) (fun c28 => ?_)
  · have hF := if_p c28 hF
    refine lv_iconst (v := 0) hx hb dX5_here_75 (by decide) ?_
    cases hF
    exact m_iret X hp dX5_here_76
  · have hF := if_n c28 hF
    refine lv_aload_n hx hb dX5_here_63 rfl (lv_at hl 0 rfl) ?_
    obtain ⟨v29, e30, hF⟩ := ob_s hF
    refine m_getR X hp e30 kX5 (Nat.le_of_ble_eq_true rfl) q1474 dX5_here_64 ?_
    refine lv_aload_n hx hb dX5_here_67 rfl (lv_at hl 0 rfl) ?_
    obtain ⟨v31, e32, hF⟩ := ob_s hF
    refine m_getI X hp e32 kX5 (Nat.le_of_ble_eq_true rfl) q1468 dX5_here_68 ?_
    obtain ⟨v33, e34, hF⟩ := ob_s hF
    refine m_iaI X hp e34 dX5_here_71 ?_
    refine lv_goto (tgt := 76) hx hb dX5_here_72 (by decide) ?_
    cases hF
    exact m_iret X hp dX5_here_76
def fb_X5_here_0 (S : mSh) : Nat → mMm → Nat → Option (Int32 × mMm)
  | 0, _, _ => none
  | t + 1, M, x0 => ob (rI S M x0 6 9) fun v1 => ob (rI S M x0 6 8) fun v3 => (if v3 ≤ v1 then (fb_X5_here_52 S M x0) else ob (rR S M x0 6 15) fun v6 => ob (rI S M x0 6 9) fun v8 => ob (aI S M v6 100 v8) fun v10 => (if v10 = (32 : Int32) then (fb_X5_here_39 S (fb_X5_here_0 S t) M x0) else ob (rR S M x0 6 15) fun v13 => ob (rI S M x0 6 9) fun v15 => ob (aI S M v13 100 v15) fun v17 => (if v17 = (10 : Int32) then (fb_X5_here_39 S (fb_X5_here_0 S t) M x0) else (fb_X5_here_52 S M x0))))
theorem b_X5_here_0 {r : Int32} {M' : mMm} (X : mCx D n0 P p m c cX5_here 1 s args yX5_here.cls meth (some .int)) : ∀ t : Nat, ∀ (M : mMm) (x0 : Nat) (H : Heap) (locs : List Loc) (ls : Array Slot), mHp D n0 S M n s H locs → lv_has ls 1 [(0, .ref x0)] → fb_X5_here_0 S t M x0 = some (r, M') → W p l e Rm_X5_here s m args below meth c H locs 0 0 (MQ below (mQ D n0 (some (.int r)) S M' n) args s 0 0 (mA n0)) (F0 m 0 ls []) := by
  have hx := X.1.1
  have hb := X.1.2.1
  have hown := X.1.2.2.2.1
  have hts := X.1.2.2.2.2
  intro t
  induction t with
  | zero =>
    intro M x0 H locs ls hp hl hF
    have hF : none = some (r, M') := hF
    cases hF
  | succ t ih =>
    intro M x0 H locs ls hp hl hF
    rw [fb_X5_here_0] at hF
    refine lv_aload_n hx hb dX5_here_0 rfl (lv_at hl 0 rfl) ?_
    obtain ⟨v1, e2, hF⟩ := ob_s hF
    refine m_getI X hp e2 kX5 (Nat.le_of_ble_eq_true rfl) q1468 dX5_here_1 ?_
    refine lv_aload_n hx hb dX5_here_4 rfl (lv_at hl 0 rfl) ?_
    obtain ⟨v3, e4, hF⟩ := ob_s hF
    refine m_getI X hp e4 kX5 (Nat.le_of_ble_eq_true rfl) q1467 dX5_here_5 ?_
    refine lv_icmp_ge (tgt := 52) hx hb dX5_here_8 (by decide) (fun c5 => ?_) (fun c5 => ?_)
    · have hF := if_p c5 hF
      exact b_X5_here_52 X _ _ _ _ _ hp (lv_sub hl [0] rfl) hF
    · have hF := if_n c5 hF
      refine lv_aload_n hx hb dX5_here_11 rfl (lv_at hl 0 rfl) ?_
      obtain ⟨v6, e7, hF⟩ := ob_s hF
      refine m_getR X hp e7 kX5 (Nat.le_of_ble_eq_true rfl) q1474 dX5_here_12 ?_
      refine lv_aload_n hx hb dX5_here_15 rfl (lv_at hl 0 rfl) ?_
      obtain ⟨v8, e9, hF⟩ := ob_s hF
      refine m_getI X hp e9 kX5 (Nat.le_of_ble_eq_true rfl) q1468 dX5_here_16 ?_
      obtain ⟨v10, e11, hF⟩ := ob_s hF
      refine m_iaI X hp e11 dX5_here_19 ?_
      refine lv_bipush (v := 32) hx hb dX5_here_20 (by decide) ?_
      refine lv_icmp_eq (tgt := 39) hx hb dX5_here_22 (by decide) (fun c12 => ?_) (fun c12 => ?_)
      · have hF := if_p c12 hF
        exact b_X5_here_39 X _ ih _ _ _ _ _ hp (lv_sub hl [0] rfl) hF
      · have hF := if_n c12 hF
        refine lv_aload_n hx hb dX5_here_25 rfl (lv_at hl 0 rfl) ?_
        obtain ⟨v13, e14, hF⟩ := ob_s hF
        refine m_getR X hp e14 kX5 (Nat.le_of_ble_eq_true rfl) q1474 dX5_here_26 ?_
        refine lv_aload_n hx hb dX5_here_29 rfl (lv_at hl 0 rfl) ?_
        obtain ⟨v15, e16, hF⟩ := ob_s hF
        refine m_getI X hp e16 kX5 (Nat.le_of_ble_eq_true rfl) q1468 dX5_here_30 ?_
        obtain ⟨v17, e18, hF⟩ := ob_s hF
        refine m_iaI X hp e18 dX5_here_33 ?_
        refine lv_bipush (v := 10) hx hb dX5_here_34 (by decide) ?_
        refine lv_icmp_ne (tgt := 52) hx hb dX5_here_36 (by decide) (fun c19 => ?_) (fun c19 => ?_)
        · have hF := if_n c19 hF
          exact b_X5_here_52 X _ _ _ _ _ hp (lv_sub hl [0] rfl) hF
        · have hF := if_p c19 hF
          exact b_X5_here_39 X _ ih _ _ _ _ _ hp (lv_sub hl [0] rfl) hF
def f_X5_here (S : mSh) (M : mMm) (x0 : Nat) : Option (Int32 × mMm) := (fb_X5_here_0 S FU M x0)
theorem w_X5_here {x0 : Nat} {r : Int32} {M' : mMm} (hF : f_X5_here S M x0 = some (r, M')) : mCt l D n0 P yX5_here cX5_here 1 (some .int) 0 0 0 0 [.ref x0] S M n (some (.int r)) S M' n := by
  refine m_ofW (by decide) (Nat.le_of_ble_eq_true rfl) (fun p e s m below meth c X hnm hp ls hl => ?_)
  have hx := X.1.1
  have hb := X.1.2.1
  have hown := X.1.2.2.2.1
  have hts := X.1.2.2.2.2
  have hl : lv_has ls 1 [(0, .ref x0)] := hl
  unfold f_X5_here at hF
  exact b_X5_here_0 X _ _ _ _ _ _ hp (lv_sub hl [0] rfl) hF
end
section
variable {l : Launch} {D : va_G} {n0 : Nat} {P : mP} {S : mSh} {M : mMm} {n : Nat} {p : Program} {e : Env} {s : State} {m : MethodId} {args : Array Value} {below : List Frame} {meth : Method} {c : Code}
abbrev Rm_X5_isLetter : Room := { frames := 0, cells := 0, slots := 0, locals := 0 }
def fb_X5_isLetter_12 (x0 : Int32) : Option Int32 := (if x0 < (65 : Int32) then some (0 : Int32) else (if (90 : Int32) < x0 then some (0 : Int32) else some (1 : Int32)))
theorem b_X5_isLetter_12 {r : Int32} (X : mCx D n0 P p m c cX5_isLetter 1 s args yX5_isLetter.cls meth (some .boolean)) : ∀ (x0 : Int32) (H : Heap) (locs : List Loc) (ls : Array Slot), mHp D n0 S M n s H locs → lv_has ls 1 [(0, .int x0)] → fb_X5_isLetter_12 x0 = some r → W p l e Rm_X5_isLetter s m args below meth c H locs 0 0 (MQ below (mQ D n0 (some (.int r)) S M n) args s 0 0 (mA n0)) (F0 m 12 ls []) := by
  have hx := X.1.1
  have hb := X.1.2.1
  have hown := X.1.2.2.2.1
  have hts := X.1.2.2.2.2
  intro x0 H locs ls hp hl hF
  unfold fb_X5_isLetter_12 at hF
  refine lv_iload_n hx hb dX5_isLetter_12 rfl (lv_at hl 0 rfl) ?_
  refine lv_bipush (v := 65) hx hb dX5_isLetter_13 (by decide) ?_
  refine lv_icmp_lt (tgt := 28) hx hb dX5_isLetter_15 (by decide) (fun c3 => ?_) (fun c3 => ?_)
  · have hF := if_p c3 hF
    refine lv_iconst (v := 0) hx hb dX5_isLetter_28 (by decide) ?_
    cases hF
    exact m_zret X hp rfl dX5_isLetter_29
  · have hF := if_n c3 hF
    refine lv_iload_n hx hb dX5_isLetter_18 rfl (lv_at hl 0 rfl) ?_
    refine lv_bipush (v := 90) hx hb dX5_isLetter_19 (by decide) ?_
    refine lv_icmp_gt (tgt := 28) hx hb dX5_isLetter_21 (by decide) (fun c4 => ?_) (fun c4 => ?_)
    · have hF := if_p c4 hF
      refine lv_iconst (v := 0) hx hb dX5_isLetter_28 (by decide) ?_
      cases hF
      exact m_zret X hp rfl dX5_isLetter_29
    · have hF := if_n c4 hF
      refine lv_iconst (v := 1) hx hb dX5_isLetter_24 (by decide) ?_
      refine lv_goto (tgt := 29) hx hb dX5_isLetter_25 (by decide) ?_
      cases hF
      exact m_zret X hp rfl dX5_isLetter_29
def f_X5_isLetter (x0 : Int32) : Option Int32 := (if x0 < (97 : Int32) then (fb_X5_isLetter_12 x0) else (if x0 ≤ (122 : Int32) then some (1 : Int32) else (fb_X5_isLetter_12 x0)))
theorem w_X5_isLetter {x0 : Int32} {r : Int32} (hF : f_X5_isLetter x0 = some r) : mCt l D n0 P yX5_isLetter cX5_isLetter 1 (some .boolean) 0 0 0 0 [.int x0] S M n (some (.int r)) S M n := by
  refine m_ofW (by decide) (Nat.le_of_ble_eq_true rfl) (fun p e s m below meth c X hnm hp ls hl => ?_)
  have hx := X.1.1
  have hb := X.1.2.1
  have hown := X.1.2.2.2.1
  have hts := X.1.2.2.2.2
  have hl : lv_has ls 1 [(0, .int x0)] := hl
  unfold f_X5_isLetter at hF
  refine lv_iload_n hx hb dX5_isLetter_0 rfl (lv_at hl 0 rfl) ?_
  refine lv_bipush (v := 97) hx hb dX5_isLetter_1 (by decide) ?_
  refine lv_icmp_lt (tgt := 12) hx hb dX5_isLetter_3 (by decide) (fun c1 => ?_) (fun c1 => ?_)
  · have hF := if_p c1 hF
    exact b_X5_isLetter_12 X _ _ _ _ hp (lv_sub hl [0] rfl) hF
  · have hF := if_n c1 hF
    refine lv_iload_n hx hb dX5_isLetter_6 rfl (lv_at hl 0 rfl) ?_
    refine lv_bipush (v := 122) hx hb dX5_isLetter_7 (by decide) ?_
    refine lv_icmp_le (tgt := 24) hx hb dX5_isLetter_9 (by decide) (fun c2 => ?_) (fun c2 => ?_)
    · have hF := if_p c2 hF
      refine lv_iconst (v := 1) hx hb dX5_isLetter_24 (by decide) ?_
      refine lv_goto (tgt := 29) hx hb dX5_isLetter_25 (by decide) ?_
      cases hF
      exact m_zret X hp rfl dX5_isLetter_29
    · have hF := if_n c2 hF
      exact b_X5_isLetter_12 X _ _ _ _ hp (lv_sub hl [0] rfl) hF
end
section
variable {l : Launch} {D : va_G} {n0 : Nat} {P : mP} {S : mSh} {M : mMm} {n : Nat} {p : Program} {e : Env} {s : State} {m : MethodId} {args : Array Value} {below : List Frame} {meth : Method} {c : Code}
abbrev Rm_X5_word : Room := { frames := 1, cells := 0, slots := 0, locals := 21 }
def fb_X5_word_86 (S : mSh) (k17 : mMm → Nat → Int32 → Int32 → Int32 → Int32 → Option (Int32 × mMm)) (M : mMm) (x0 : Nat) (x2 : Int32) (x3 : Int32) (x4 : Int32) (y0 : Int32) : Option (Int32 × mMm) := nm (x3 + (1 : Int32)) fun v37 => nm (x4 + (1 : Int32)) fun v39 => (k17 M x0 y0 x2 v37 v39)
theorem b_X5_word_86 {r : Int32} {M' : mMm} (X : mCx D n0 P p m c cX5_word 5 s args yX5_word.cls meth (some .int)) (k17 : mMm → Nat → Int32 → Int32 → Int32 → Int32 → Option (Int32 × mMm)) (hk17 : ∀ (M : mMm) (x0 : Nat) (x1 : Int32) (x2 : Int32) (x3 : Int32) (x4 : Int32) (H : Heap) (locs : List Loc) (ls : Array Slot), mHp D n0 S M n s H locs → lv_has ls 5 [(0, .ref x0), (1, .int x1), (2, .int x2), (3, .int x3), (4, .int x4)] → k17 M x0 x1 x2 x3 x4 = some (r, M') → W p l e Rm_X5_word s m args below meth c H locs 0 0 (MQ below (mQ D n0 (some (.int r)) S M' n) args s 0 0 (mA n0)) (F0 m 17 ls [])) : ∀ (M : mMm) (x0 : Nat) (x2 : Int32) (x3 : Int32) (x4 : Int32) (y0 : Int32) (H : Heap) (locs : List Loc) (ls : Array Slot), mHp D n0 S M n s H locs → lv_has ls 5 [(0, .ref x0), (2, .int x2), (3, .int x3), (4, .int x4)] → fb_X5_word_86 S k17 M x0 x2 x3 x4 y0 = some (r, M') → W p l e Rm_X5_word s m args below meth c H locs 0 0 (MQ below (mQ D n0 (some (.int r)) S M' n) args s 0 0 (mA n0)) (F0 m 86 ls [.int y0]) := by
  have hx := X.1.1
  have hb := X.1.2.1
  have hown := X.1.2.2.2.1
  have hts := X.1.2.2.2.2
  intro M x0 x2 x3 x4 y0 H locs ls hp hl hF
  unfold fb_X5_word_86 at hF
  refine lv_istore_n (lv' := [(1, .int y0), (0, .ref x0), (2, .int x2), (3, .int x3), (4, .int x4)]) hx hb dX5_word_86 rfl hl (by decide) rfl (fun ls hl => ?_)
  obtain ⟨v37, ev38⟩ : ∃ y : Int32, y = x3 + (1 : Int32) := ⟨_, rfl⟩
  have hF := nm_s hF ev38
  refine lv_iinc (v := v37) (lv' := [(3, .int v37), (1, .int y0), (0, .ref x0), (2, .int x2), (4, .int x4)]) hx hb dX5_word_87 hl (k := 3) rfl (by rw [ev38]; rfl) (by decide) rfl (fun ls hl => ?_)
  obtain ⟨v39, ev40⟩ : ∃ y : Int32, y = x4 + (1 : Int32) := ⟨_, rfl⟩
  have hF := nm_s hF ev40
  refine lv_iinc (v := v39) (lv' := [(4, .int v39), (3, .int v37), (1, .int y0), (0, .ref x0), (2, .int x2)]) hx hb dX5_word_90 hl (k := 4) rfl (by rw [ev40]; rfl) (by decide) rfl (fun ls hl => ?_)
  refine lv_goto (tgt := 17) hx hb dX5_word_93 (by decide) ?_
  exact hk17 _ _ _ _ _ _ _ _ _ hp (lv_sub hl [3, 2, 4, 1, 0] rfl) hF
def fb_X5_word_66 (S : mSh) (k17 : mMm → Nat → Int32 → Int32 → Int32 → Int32 → Option (Int32 × mMm)) (M : mMm) (x0 : Nat) (x1 : Int32) (x3 : Int32) (x4 : Int32) (y0 : Int32) : Option (Int32 × mMm) := (if y0 = 0 then (fb_X5_word_86 S k17 M x0 y0 x3 x4 (0 : Int32)) else ob (rR S M x0 6 15) fun v31 => ob (aI S M v31 100 x4) fun v33 => ob (f_X5_packed x1 v33) fun v36 => (fb_X5_word_86 S k17 M x0 y0 x3 x4 v36))
theorem b_X5_word_66 {r : Int32} {M' : mMm} (X : mCx D n0 P p m c cX5_word 5 s args yX5_word.cls meth (some .int)) (k17 : mMm → Nat → Int32 → Int32 → Int32 → Int32 → Option (Int32 × mMm)) (hk17 : ∀ (M : mMm) (x0 : Nat) (x1 : Int32) (x2 : Int32) (x3 : Int32) (x4 : Int32) (H : Heap) (locs : List Loc) (ls : Array Slot), mHp D n0 S M n s H locs → lv_has ls 5 [(0, .ref x0), (1, .int x1), (2, .int x2), (3, .int x3), (4, .int x4)] → k17 M x0 x1 x2 x3 x4 = some (r, M') → W p l e Rm_X5_word s m args below meth c H locs 0 0 (MQ below (mQ D n0 (some (.int r)) S M' n) args s 0 0 (mA n0)) (F0 m 17 ls [])) : ∀ (M : mMm) (x0 : Nat) (x1 : Int32) (x3 : Int32) (x4 : Int32) (y0 : Int32) (H : Heap) (locs : List Loc) (ls : Array Slot), mHp D n0 S M n s H locs → lv_has ls 5 [(0, .ref x0), (1, .int x1), (3, .int x3), (4, .int x4)] → fb_X5_word_66 S k17 M x0 x1 x3 x4 y0 = some (r, M') → W p l e Rm_X5_word s m args below meth c H locs 0 0 (MQ below (mQ D n0 (some (.int r)) S M' n) args s 0 0 (mA n0)) (F0 m 66 ls [.int y0]) := by
  have hx := X.1.1
  have hb := X.1.2.1
  have hown := X.1.2.2.2.1
  have hts := X.1.2.2.2.2
  intro M x0 x1 x3 x4 y0 H locs ls hp hl hF
  unfold fb_X5_word_66 at hF
  refine lv_istore_n (lv' := [(2, .int y0), (0, .ref x0), (1, .int x1), (3, .int x3), (4, .int x4)]) hx hb dX5_word_66 rfl hl (by decide) rfl (fun ls hl => ?_)
  refine lv_iload_n hx hb dX5_word_67 rfl (lv_at hl 0 rfl) ?_
  refine lv_if_eq (tgt := 85) hx hb dX5_word_68 (by decide) (fun c30 => ?_) (fun c30 => ?_)
  · have hF := if_p c30 hF
    refine lv_iconst (v := 0) hx hb dX5_word_85 (by decide) ?_
    exact b_X5_word_86 X _ hk17 _ _ _ _ _ _ _ _ _ hp (lv_sub hl [1, 0, 3, 4] rfl) hF
  · have hF := if_n c30 hF
    refine lv_iload_n hx hb dX5_word_71 rfl (lv_at hl 2 rfl) ?_
    refine lv_aload_n hx hb dX5_word_72 rfl (lv_at hl 1 rfl) ?_
    obtain ⟨v31, e32, hF⟩ := ob_s hF
    refine m_getR X hp e32 kX5 (Nat.le_of_ble_eq_true rfl) q1474 dX5_word_73 ?_
    refine lv_iload hx hb dX5_word_76 (lv_at hl 4 rfl) ?_
    obtain ⟨v33, e34, hF⟩ := ob_s hF
    refine m_iaI X hp e34 dX5_word_78 ?_
    obtain ⟨v36, e35, hF⟩ := ob_s hF
    refine m_callS (As := [.int x1, .int v33]) (rest := []) X hp (w_X5_packed e35) q1617 q1618 q144 q1619 2 rfl ds_X5_packed ⟨Nat.le_of_ble_eq_true rfl, Nat.le_of_ble_eq_true rfl⟩ hl.1 rfl (Nat.le_of_ble_eq_true rfl) dX5_word_79 ⟨Nat.le_refl 0, Nat.le_refl 0⟩ (fun H locs hp => ?_)
    refine lv_goto (tgt := 86) hx hb dX5_word_82 (by decide) ?_
    exact b_X5_word_86 X _ hk17 _ _ _ _ _ _ _ _ _ hp (lv_sub hl [1, 0, 3, 4] rfl) hF
def fb_X5_word_96 (S : mSh) (M : mMm) (x1 : Int32) (x2 : Int32) : Option (Int32 × mMm) := (if x2 = 0 then some ((0 : Int32), M) else some (x1, M))
theorem b_X5_word_96 {r : Int32} {M' : mMm} (X : mCx D n0 P p m c cX5_word 5 s args yX5_word.cls meth (some .int)) : ∀ (M : mMm) (x1 : Int32) (x2 : Int32) (H : Heap) (locs : List Loc) (ls : Array Slot), mHp D n0 S M n s H locs → lv_has ls 5 [(1, .int x1), (2, .int x2)] → fb_X5_word_96 S M x1 x2 = some (r, M') → W p l e Rm_X5_word s m args below meth c H locs 0 0 (MQ below (mQ D n0 (some (.int r)) S M' n) args s 0 0 (mA n0)) (F0 m 96 ls []) := by
  have hx := X.1.1
  have hb := X.1.2.1
  have hown := X.1.2.2.2.1
  have hts := X.1.2.2.2.2
  intro M x1 x2 H locs ls hp hl hF
  unfold fb_X5_word_96 at hF
  refine lv_iload_n hx hb dX5_word_96 rfl (lv_at hl 1 rfl) ?_
  refine lv_if_eq (tgt := 104) hx hb dX5_word_97 (by decide) (fun c41 => ?_) (fun c41 => ?_)
  · have hF := if_p c41 hF
    refine lv_iconst (v := 0) hx hb dX5_word_104 (by decide) ?_
    cases hF
    exact m_iret X hp dX5_word_105
  · have hF := if_n c41 hF
    refine lv_iload_n hx hb dX5_word_100 rfl (lv_at hl 0 rfl) ?_
    refine lv_goto (tgt := 105) hx hb dX5_word_101 (by decide) ?_
    cases hF
    exact m_iret X hp dX5_word_105
def fb_X5_word_17 (S : mSh) : Nat → mMm → Nat → Int32 → Int32 → Int32 → Int32 → Option (Int32 × mMm)
  | 0, _, _, _, _, _, _ => none
  | t + 1, M, x0, x1, x2, x3, x4 => ob (rI S M x0 6 8) fun v13 => (if v13 ≤ x4 then (fb_X5_word_96 S M x1 x2) else ob (rR S M x0 6 15) fun v16 => ob (aI S M v16 100 x4) fun v18 => ob (f_X5_isLetter v18) fun v21 => (if v21 = 0 then (fb_X5_word_96 S M x1 x2) else (if x2 = 0 then (fb_X5_word_66 S (fb_X5_word_17 S t) M x0 x1 x3 x4 (0 : Int32)) else ob (rR S M x0 6 15) fun v24 => ob (aI S M v24 100 x4) fun v26 => (if v26 < (97 : Int32) then (fb_X5_word_66 S (fb_X5_word_17 S t) M x0 x1 x3 x4 (0 : Int32)) else (if (6 : Int32) ≤ x3 then (fb_X5_word_66 S (fb_X5_word_17 S t) M x0 x1 x3 x4 (0 : Int32)) else (fb_X5_word_66 S (fb_X5_word_17 S t) M x0 x1 x3 x4 (1 : Int32)))))))
theorem b_X5_word_17 {r : Int32} {M' : mMm} (X : mCx D n0 P p m c cX5_word 5 s args yX5_word.cls meth (some .int)) : ∀ t : Nat, ∀ (M : mMm) (x0 : Nat) (x1 : Int32) (x2 : Int32) (x3 : Int32) (x4 : Int32) (H : Heap) (locs : List Loc) (ls : Array Slot), mHp D n0 S M n s H locs → lv_has ls 5 [(0, .ref x0), (1, .int x1), (2, .int x2), (3, .int x3), (4, .int x4)] → fb_X5_word_17 S t M x0 x1 x2 x3 x4 = some (r, M') → W p l e Rm_X5_word s m args below meth c H locs 0 0 (MQ below (mQ D n0 (some (.int r)) S M' n) args s 0 0 (mA n0)) (F0 m 17 ls []) := by
  have hx := X.1.1
  have hb := X.1.2.1
  have hown := X.1.2.2.2.1
  have hts := X.1.2.2.2.2
  intro t
  induction t with
  | zero =>
    intro M x0 x1 x2 x3 x4 H locs ls hp hl hF
    have hF : none = some (r, M') := hF
    cases hF
  | succ t ih =>
    intro M x0 x1 x2 x3 x4 H locs ls hp hl hF
    rw [fb_X5_word_17] at hF
    refine lv_iload hx hb dX5_word_17 (lv_at hl 4 rfl) ?_
    refine lv_aload_n hx hb dX5_word_19 rfl (lv_at hl 0 rfl) ?_
    obtain ⟨v13, e14, hF⟩ := ob_s hF
    refine m_getI X hp e14 kX5 (Nat.le_of_ble_eq_true rfl) q1467 dX5_word_20 ?_
    refine lv_icmp_ge (tgt := 96) hx hb dX5_word_23 (by decide) (fun c15 => ?_) (fun c15 => ?_)
    · have hF := if_p c15 hF
      exact b_X5_word_96 X _ _ _ _ _ _ hp (lv_sub hl [1, 2] rfl) hF
    · have hF := if_n c15 hF
      refine lv_aload_n hx hb dX5_word_26 rfl (lv_at hl 0 rfl) ?_
      obtain ⟨v16, e17, hF⟩ := ob_s hF
      refine m_getR X hp e17 kX5 (Nat.le_of_ble_eq_true rfl) q1474 dX5_word_27 ?_
      refine lv_iload hx hb dX5_word_30 (lv_at hl 4 rfl) ?_
      obtain ⟨v18, e19, hF⟩ := ob_s hF
      refine m_iaI X hp e19 dX5_word_32 ?_
      obtain ⟨v21, e20, hF⟩ := ob_s hF
      refine m_callS (As := [.int v18]) (rest := []) X hp (w_X5_isLetter e20) q1614 q1615 q144 q1616 1 rfl ds_X5_isLetter ⟨Nat.le_of_ble_eq_true rfl, Nat.le_of_ble_eq_true rfl⟩ hl.1 rfl (Nat.le_of_ble_eq_true rfl) dX5_word_33 ⟨Nat.le_refl 0, Nat.le_refl 0⟩ (fun H locs hp => ?_)
      refine lv_if_eq (tgt := 96) hx hb dX5_word_36 (by decide) (fun c22 => ?_) (fun c22 => ?_)
      · have hF := if_p c22 hF
        exact b_X5_word_96 X _ _ _ _ _ _ hp (lv_sub hl [1, 2] rfl) hF
      · have hF := if_n c22 hF
        refine lv_iload_n hx hb dX5_word_39 rfl (lv_at hl 2 rfl) ?_
        refine lv_if_eq (tgt := 65) hx hb dX5_word_40 (by decide) (fun c23 => ?_) (fun c23 => ?_)
        · have hF := if_p c23 hF
          refine lv_iconst (v := 0) hx hb dX5_word_65 (by decide) ?_
          exact b_X5_word_66 X _ ih _ _ _ _ _ _ _ _ _ hp (lv_sub hl [0, 1, 3, 4] rfl) hF
        · have hF := if_n c23 hF
          refine lv_aload_n hx hb dX5_word_43 rfl (lv_at hl 0 rfl) ?_
          obtain ⟨v24, e25, hF⟩ := ob_s hF
          refine m_getR X hp e25 kX5 (Nat.le_of_ble_eq_true rfl) q1474 dX5_word_44 ?_
          refine lv_iload hx hb dX5_word_47 (lv_at hl 4 rfl) ?_
          obtain ⟨v26, e27, hF⟩ := ob_s hF
          refine m_iaI X hp e27 dX5_word_49 ?_
          refine lv_bipush (v := 97) hx hb dX5_word_50 (by decide) ?_
          refine lv_icmp_lt (tgt := 65) hx hb dX5_word_52 (by decide) (fun c28 => ?_) (fun c28 => ?_)
          · have hF := if_p c28 hF
            refine lv_iconst (v := 0) hx hb dX5_word_65 (by decide) ?_
            exact b_X5_word_66 X _ ih _ _ _ _ _ _ _ _ _ hp (lv_sub hl [0, 1, 3, 4] rfl) hF
          · have hF := if_n c28 hF
            refine lv_iload_n hx hb dX5_word_55 rfl (lv_at hl 3 rfl) ?_
            refine lv_bipush (v := 6) hx hb dX5_word_56 (by decide) ?_
            refine lv_icmp_ge (tgt := 65) hx hb dX5_word_58 (by decide) (fun c29 => ?_) (fun c29 => ?_)
            · have hF := if_p c29 hF
              refine lv_iconst (v := 0) hx hb dX5_word_65 (by decide) ?_
              exact b_X5_word_66 X _ ih _ _ _ _ _ _ _ _ _ hp (lv_sub hl [0, 1, 3, 4] rfl) hF
            · have hF := if_n c29 hF
              refine lv_iconst (v := 1) hx hb dX5_word_61 (by decide) ?_
              refine lv_goto (tgt := 66) hx hb dX5_word_62 (by decide) ?_
              exact b_X5_word_66 X _ ih _ _ _ _ _ _ _ _ _ hp (lv_sub hl [0, 1, 3, 4] rfl) hF
def f_X5_word (S : mSh) (M : mMm) (x0 : Nat) : Option (Int32 × mMm) := gd ((S x0).1 = 6) (ob (f_X5_here S M x0) fun ⟨v3, M4⟩ => nm ((0 : Int32)) fun v5 => nm ((1 : Int32)) fun v7 => nm ((0 : Int32)) fun v9 => ob (rI S M4 x0 6 9) fun v11 => (fb_X5_word_17 S FU M4 x0 v5 v7 v9 v11))
theorem w_X5_word {x0 : Nat} {r : Int32} {M' : mMm} (hF : f_X5_word S M x0 = some (r, M')) : mCt l D n0 P yX5_word cX5_word 5 (some .int) 1 21 0 0 [.ref x0] S M n (some (.int r)) S M' n := by
  refine m_ofW (by decide) (Nat.le_of_ble_eq_true rfl) (fun p e s m below meth c X hnm hp ls hl => ?_)
  have hx := X.1.1
  have hb := X.1.2.1
  have hown := X.1.2.2.2.1
  have hts := X.1.2.2.2.2
  have hl : lv_has ls 5 [(0, .ref x0)] := hl
  unfold f_X5_word at hF
  refine lv_aload_n hx hb dX5_word_0 rfl (lv_at hl 0 rfl) ?_
  obtain ⟨g1, hF⟩ := gd_s hF
  obtain ⟨⟨v3, M4⟩, e2, hF⟩ := ob_s hF
  refine m_callV (As := []) (rest := []) X hp (w_X5_here e2) q1602 q1604 qs65 q144 q1605 0 rfl ds_X5_here ⟨Nat.le_of_ble_eq_true rfl, Nat.le_of_ble_eq_true rfl⟩ 6 (T := TX5) (N := 40) rfl (by decide) g1 hl.1 rfl (Nat.le_of_ble_eq_true rfl) dX5_word_1 ⟨Nat.le_refl 0, Nat.le_refl 0⟩ (fun H locs hp => ?_)
  refine lv_pop hx hb dX5_word_4 rfl ?_
  refine lv_iconst (v := 0) hx hb dX5_word_5 (by decide) ?_
  refine lv_topi (fun v5 ev6 => ?_)
  have hF := nm_s hF ev6
  refine lv_istore_n (lv' := [(1, .int v5), (0, .ref x0)]) hx hb dX5_word_6 rfl hl (by decide) rfl (fun ls hl => ?_)
  refine lv_iconst (v := 1) hx hb dX5_word_7 (by decide) ?_
  refine lv_topi (fun v7 ev8 => ?_)
  have hF := nm_s hF ev8
  refine lv_istore_n (lv' := [(2, .int v7), (1, .int v5), (0, .ref x0)]) hx hb dX5_word_8 rfl hl (by decide) rfl (fun ls hl => ?_)
  refine lv_iconst (v := 0) hx hb dX5_word_9 (by decide) ?_
  refine lv_topi (fun v9 ev10 => ?_)
  have hF := nm_s hF ev10
  refine lv_istore_n (lv' := [(3, .int v9), (2, .int v7), (1, .int v5), (0, .ref x0)]) hx hb dX5_word_10 rfl hl (by decide) rfl (fun ls hl => ?_)
  refine lv_aload_n hx hb dX5_word_11 rfl (lv_at hl 3 rfl) ?_
  obtain ⟨v11, e12, hF⟩ := ob_s hF
  refine m_getI X hp e12 kX5 (Nat.le_of_ble_eq_true rfl) q1468 dX5_word_12 ?_
  refine lv_istore (lv' := [(4, .int v11), (3, .int v9), (2, .int v7), (1, .int v5), (0, .ref x0)]) hx hb dX5_word_15 hl (by decide) rfl (fun ls hl => ?_)
  exact b_X5_word_17 X _ _ _ _ _ _ _ _ _ _ hp (lv_sub hl [4, 3, 2, 1, 0] rfl) hF
end
section
variable {l : Launch} {D : va_G} {n0 : Nat} {P : mP} {S : mSh} {M : mMm} {n : Nat} {p : Program} {e : Env} {s : State} {m : MethodId} {args : Array Value} {below : List Frame} {meth : Method} {c : Code}
abbrev Rm_X5_pass : Room := { frames := 1, cells := 0, slots := 0, locals := 20 }
def fb_X5_pass_0 (S : mSh) : Nat → mMm → Nat → Option mMm
  | 0, _, _ => none
  | t + 1, M, x0 => ob (rI S M x0 6 9) fun v1 => ob (rI S M x0 6 8) fun v3 => (if v3 ≤ v1 then some M else ob (rR S M x0 6 15) fun v6 => ob (rI S M x0 6 9) fun v8 => ob (aI S M v6 100 v8) fun v10 => ob (f_X5_isLetter v10) fun v13 => (if v13 = 0 then some M else ob (rI S M x0 6 9) fun v15 => ob (wF S M x0 6 9 (.int (v15 + (1 : Int32)))) fun M17 => (fb_X5_pass_0 S t M17 x0)))
theorem b_X5_pass_0 {M' : mMm} (X : mCx D n0 P p m c cX5_pass 1 s args yX5_pass.cls meth none) : ∀ t : Nat, ∀ (M : mMm) (x0 : Nat) (H : Heap) (locs : List Loc) (ls : Array Slot), mHp D n0 S M n s H locs → lv_has ls 1 [(0, .ref x0)] → fb_X5_pass_0 S t M x0 = some M' → W p l e Rm_X5_pass s m args below meth c H locs 0 0 (MQ below (mQ D n0 none S M' n) args s 0 0 (mA n0)) (F0 m 0 ls []) := by
  have hx := X.1.1
  have hb := X.1.2.1
  have hown := X.1.2.2.2.1
  have hts := X.1.2.2.2.2
  intro t
  induction t with
  | zero =>
    intro M x0 H locs ls hp hl hF
    have hF : none = some M' := hF
    cases hF
  | succ t ih =>
    intro M x0 H locs ls hp hl hF
    rw [fb_X5_pass_0] at hF
    refine lv_aload_n hx hb dX5_pass_0 rfl (lv_at hl 0 rfl) ?_
    obtain ⟨v1, e2, hF⟩ := ob_s hF
    refine m_getI X hp e2 kX5 (Nat.le_of_ble_eq_true rfl) q1468 dX5_pass_1 ?_
    refine lv_aload_n hx hb dX5_pass_4 rfl (lv_at hl 0 rfl) ?_
    obtain ⟨v3, e4, hF⟩ := ob_s hF
    refine m_getI X hp e4 kX5 (Nat.le_of_ble_eq_true rfl) q1467 dX5_pass_5 ?_
    refine lv_icmp_ge (tgt := 39) hx hb dX5_pass_8 (by decide) (fun c5 => ?_) (fun c5 => ?_)
    · have hF := if_p c5 hF
      cases hF
      exact m_vret X hp dX5_pass_39
    · have hF := if_n c5 hF
      refine lv_aload_n hx hb dX5_pass_11 rfl (lv_at hl 0 rfl) ?_
      obtain ⟨v6, e7, hF⟩ := ob_s hF
      refine m_getR X hp e7 kX5 (Nat.le_of_ble_eq_true rfl) q1474 dX5_pass_12 ?_
      refine lv_aload_n hx hb dX5_pass_15 rfl (lv_at hl 0 rfl) ?_
      obtain ⟨v8, e9, hF⟩ := ob_s hF
      refine m_getI X hp e9 kX5 (Nat.le_of_ble_eq_true rfl) q1468 dX5_pass_16 ?_
      obtain ⟨v10, e11, hF⟩ := ob_s hF
      refine m_iaI X hp e11 dX5_pass_19 ?_
      obtain ⟨v13, e12, hF⟩ := ob_s hF
      refine m_callS (As := [.int v10]) (rest := []) X hp (w_X5_isLetter e12) q1614 q1615 q144 q1616 1 rfl ds_X5_isLetter ⟨Nat.le_of_ble_eq_true rfl, Nat.le_of_ble_eq_true rfl⟩ hl.1 rfl (Nat.le_of_ble_eq_true rfl) dX5_pass_20 ⟨Nat.le_refl 0, Nat.le_refl 0⟩ (fun H locs hp => ?_)
      refine lv_if_eq (tgt := 39) hx hb dX5_pass_23 (by decide) (fun c14 => ?_) (fun c14 => ?_)
      · have hF := if_p c14 hF
        cases hF
        exact m_vret X hp dX5_pass_39
      · have hF := if_n c14 hF
        refine lv_aload_n hx hb dX5_pass_26 rfl (lv_at hl 0 rfl) ?_
        refine lv_dup hx hb dX5_pass_27 rfl ?_
        obtain ⟨v15, e16, hF⟩ := ob_s hF
        refine m_getI X hp e16 kX5 (Nat.le_of_ble_eq_true rfl) q1468 dX5_pass_28 ?_
        refine lv_iconst (v := 1) hx hb dX5_pass_31 (by decide) ?_
        refine lv_iadd hx hb dX5_pass_32 ?_
        obtain ⟨M17, e18, hF⟩ := ob_s hF
        refine m_putW X hp e18 kX5 (Nat.le_of_ble_eq_true rfl) q1468 rfl rfl rfl dX5_pass_33 (fun H locs hp => ?_)
        refine lv_goto (tgt := 0) hx hb dX5_pass_36 (by decide) ?_
        exact ih _ _ _ _ _ hp (lv_sub hl [0] rfl) hF
def f_X5_pass (S : mSh) (M : mMm) (x0 : Nat) : Option mMm := (fb_X5_pass_0 S FU M x0)
theorem w_X5_pass {x0 : Nat} {M' : mMm} (hF : f_X5_pass S M x0 = some M') : mCt l D n0 P yX5_pass cX5_pass 1 none 1 20 0 0 [.ref x0] S M n none S M' n := by
  refine m_ofW (by decide) (Nat.le_of_ble_eq_true rfl) (fun p e s m below meth c X hnm hp ls hl => ?_)
  have hx := X.1.1
  have hb := X.1.2.1
  have hown := X.1.2.2.2.1
  have hts := X.1.2.2.2.2
  have hl : lv_has ls 1 [(0, .ref x0)] := hl
  unfold f_X5_pass at hF
  exact b_X5_pass_0 X _ _ _ _ _ _ hp (lv_sub hl [0] rfl) hF
end
section
variable {l : Launch} {D : va_G} {n0 : Nat} {P : mP} {S : mSh} {M : mMm} {n : Nat} {p : Program} {e : Env} {s : State} {m : MethodId} {args : Array Value} {below : List Frame} {meth : Method} {c : Code}
abbrev Rm_X5_goesOnWith : Room := { frames := 3, cells := 0, slots := 0, locals := 63 }
def fb_X5_goesOnWith_95 (S : mSh) (M : mMm) (x0 : Nat) : Option (Int32 × mMm) := gd ((S x0).1 = 6) (ob (f_X5_pass S M x0) fun M47 => ob (rI S M47 x0 6 19) fun v48 => ob (wF S M47 x0 6 19 (.int (v48 + (1 : Int32)))) fun M50 => some ((1 : Int32), M50))
theorem b_X5_goesOnWith_95 {r : Int32} {M' : mMm} (X : mCx D n0 P p m c cX5_goesOnWith 1 s args yX5_goesOnWith.cls meth (some .boolean)) : ∀ (M : mMm) (x0 : Nat) (H : Heap) (locs : List Loc) (ls : Array Slot), mHp D n0 S M n s H locs → lv_has ls 1 [(0, .ref x0)] → fb_X5_goesOnWith_95 S M x0 = some (r, M') → W p l e Rm_X5_goesOnWith s m args below meth c H locs 0 0 (MQ below (mQ D n0 (some (.int r)) S M' n) args s 0 0 (mA n0)) (F0 m 95 ls []) := by
  have hx := X.1.1
  have hb := X.1.2.1
  have hown := X.1.2.2.2.1
  have hts := X.1.2.2.2.2
  intro M x0 H locs ls hp hl hF
  unfold fb_X5_goesOnWith_95 at hF
  refine lv_aload_n hx hb dX5_goesOnWith_95 rfl (lv_at hl 0 rfl) ?_
  obtain ⟨g44, hF⟩ := gd_s hF
  obtain ⟨M47, e45, hF⟩ := ob_s hF
  refine m_callV (As := []) (rest := []) X hp (w_X5_pass e45) q1631 q1633 qs70 q144 q1634 0 rfl ds_X5_pass ⟨Nat.le_of_ble_eq_true rfl, Nat.le_of_ble_eq_true rfl⟩ 6 (T := TX5) (N := 40) rfl (by decide) g44 hl.1 rfl (Nat.le_of_ble_eq_true rfl) dX5_goesOnWith_96 ⟨Nat.le_refl 0, Nat.le_refl 0⟩ (fun H locs hp => ?_)
  refine lv_aload_n hx hb dX5_goesOnWith_99 rfl (lv_at hl 0 rfl) ?_
  refine lv_dup hx hb dX5_goesOnWith_100 rfl ?_
  obtain ⟨v48, e49, hF⟩ := ob_s hF
  refine m_getI X hp e49 kX5 (Nat.le_of_ble_eq_true rfl) q1478 dX5_goesOnWith_101 ?_
  refine lv_iconst (v := 1) hx hb dX5_goesOnWith_104 (by decide) ?_
  refine lv_iadd hx hb dX5_goesOnWith_105 ?_
  obtain ⟨M50, e51, hF⟩ := ob_s hF
  refine m_putW X hp e51 kX5 (Nat.le_of_ble_eq_true rfl) q1478 rfl rfl rfl dX5_goesOnWith_106 (fun H locs hp => ?_)
  refine lv_iconst (v := 1) hx hb dX5_goesOnWith_109 (by decide) ?_
  cases hF
  exact m_zret X hp rfl dX5_goesOnWith_110
def f_X5_goesOnWith (S : mSh) (M : mMm) (x0 : Nat) : Option (Int32 × mMm) := gd ((S x0).1 = 6) (ob (f_X5_closes S M x0 (2 : Int32)) fun M4 => ob (f_X5_word S M4 x0) fun ⟨v6, M7⟩ => ob (f_X5_spelt (97 : Int32) (110 : Int32) (100 : Int32) (0 : Int32) (0 : Int32) (0 : Int32)) fun v9 => (if v6 = v9 then ob (f_X5_closes S M7 x0 (3 : Int32)) fun M37 => ob (rR S M37 x0 6 18) fun v38 => ob (rI S M37 x0 6 19) fun v40 => ob (wA S M37 v38 100 v40 (.int (3 : Int32))) fun M42 => (fb_X5_goesOnWith_95 S M42 x0) else ob (f_X5_word S M7 x0) fun ⟨v12, M13⟩ => ob (f_X5_spelt (111 : Int32) (114 : Int32) (0 : Int32) (0 : Int32) (0 : Int32) (0 : Int32)) fun v15 => (if v12 = v15 then ob (f_X5_closes S M13 x0 (3 : Int32)) fun M25 => ob (f_X5_closes S M25 x0 (4 : Int32)) fun M28 => ob (rR S M28 x0 6 18) fun v29 => ob (rI S M28 x0 6 19) fun v31 => ob (wA S M28 v29 100 v31 (.int (4 : Int32))) fun M33 => (fb_X5_goesOnWith_95 S M33 x0) else ob (f_X5_closes S M13 x0 (3 : Int32)) fun M19 => ob (f_X5_closes S M19 x0 (4 : Int32)) fun M22 => some ((0 : Int32), M22))))
theorem w_X5_goesOnWith {x0 : Nat} {r : Int32} {M' : mMm} (hF : f_X5_goesOnWith S M x0 = some (r, M')) : mCt l D n0 P yX5_goesOnWith cX5_goesOnWith 1 (some .boolean) 3 63 0 0 [.ref x0] S M n (some (.int r)) S M' n := by
  refine m_ofW (by decide) (Nat.le_of_ble_eq_true rfl) (fun p e s m below meth c X hnm hp ls hl => ?_)
  have hx := X.1.1
  have hb := X.1.2.1
  have hown := X.1.2.2.2.1
  have hts := X.1.2.2.2.2
  have hl : lv_has ls 1 [(0, .ref x0)] := hl
  unfold f_X5_goesOnWith at hF
  refine lv_aload_n hx hb dX5_goesOnWith_0 rfl (lv_at hl 0 rfl) ?_
  refine lv_iconst (v := 2) hx hb dX5_goesOnWith_1 (by decide) ?_
  obtain ⟨g1, hF⟩ := gd_s hF
  obtain ⟨M4, e2, hF⟩ := ob_s hF
  refine m_callV (As := [.int (2 : Int32)]) (rest := []) X hp (w_X5_closes e2) q1685 q1687 qs82 q144 q1688 1 rfl ds_X5_closes ⟨Nat.le_of_ble_eq_true rfl, Nat.le_of_ble_eq_true rfl⟩ 6 (T := TX5) (N := 40) rfl (by decide) g1 hl.1 rfl (Nat.le_of_ble_eq_true rfl) dX5_goesOnWith_2 ⟨Nat.le_refl 0, Nat.le_refl 0⟩ (fun H locs hp => ?_)
  refine lv_aload_n hx hb dX5_goesOnWith_5 rfl (lv_at hl 0 rfl) ?_
  obtain ⟨⟨v6, M7⟩, e5, hF⟩ := ob_s hF
  refine m_callV (As := []) (rest := []) X hp (w_X5_word e5) q1610 q1612 qs67 q144 q1613 0 rfl ds_X5_word ⟨Nat.le_of_ble_eq_true rfl, Nat.le_of_ble_eq_true rfl⟩ 6 (T := TX5) (N := 40) rfl (by decide) g1 hl.1 rfl (Nat.le_of_ble_eq_true rfl) dX5_goesOnWith_6 ⟨Nat.le_refl 0, Nat.le_refl 0⟩ (fun H locs hp => ?_)
  refine lv_bipush (v := 97) hx hb dX5_goesOnWith_9 (by decide) ?_
  refine lv_bipush (v := 110) hx hb dX5_goesOnWith_11 (by decide) ?_
  refine lv_bipush (v := 100) hx hb dX5_goesOnWith_13 (by decide) ?_
  refine lv_iconst (v := 0) hx hb dX5_goesOnWith_15 (by decide) ?_
  refine lv_iconst (v := 0) hx hb dX5_goesOnWith_16 (by decide) ?_
  refine lv_iconst (v := 0) hx hb dX5_goesOnWith_17 (by decide) ?_
  obtain ⟨v9, e8, hF⟩ := ob_s hF
  refine m_callS (As := [.int (97 : Int32), .int (110 : Int32), .int (100 : Int32), .int (0 : Int32), .int (0 : Int32), .int (0 : Int32)]) (rest := [.int v6]) X hp (w_X5_spelt e8) q1620 q1621 q144 q1622 6 rfl ds_X5_spelt ⟨Nat.le_of_ble_eq_true rfl, Nat.le_of_ble_eq_true rfl⟩ hl.1 rfl (Nat.le_of_ble_eq_true rfl) dX5_goesOnWith_18 ⟨Nat.le_refl 0, Nat.le_refl 0⟩ (fun H locs hp => ?_)
  refine lv_icmp_ne (tgt := 42) hx hb dX5_goesOnWith_21 (by decide) (fun c10 => ?_) (fun c10 => ?_)
  · have hF := if_n c10 hF
    refine lv_aload_n hx hb dX5_goesOnWith_42 rfl (lv_at hl 0 rfl) ?_
    obtain ⟨⟨v12, M13⟩, e11, hF⟩ := ob_s hF
    refine m_callV (As := []) (rest := []) X hp (w_X5_word e11) q1610 q1612 qs67 q144 q1613 0 rfl ds_X5_word ⟨Nat.le_of_ble_eq_true rfl, Nat.le_of_ble_eq_true rfl⟩ 6 (T := TX5) (N := 40) rfl (by decide) g1 hl.1 rfl (Nat.le_of_ble_eq_true rfl) dX5_goesOnWith_43 ⟨Nat.le_refl 0, Nat.le_refl 0⟩ (fun H locs hp => ?_)
    refine lv_bipush (v := 111) hx hb dX5_goesOnWith_46 (by decide) ?_
    refine lv_bipush (v := 114) hx hb dX5_goesOnWith_48 (by decide) ?_
    refine lv_iconst (v := 0) hx hb dX5_goesOnWith_50 (by decide) ?_
    refine lv_iconst (v := 0) hx hb dX5_goesOnWith_51 (by decide) ?_
    refine lv_iconst (v := 0) hx hb dX5_goesOnWith_52 (by decide) ?_
    refine lv_iconst (v := 0) hx hb dX5_goesOnWith_53 (by decide) ?_
    obtain ⟨v15, e14, hF⟩ := ob_s hF
    refine m_callS (As := [.int (111 : Int32), .int (114 : Int32), .int (0 : Int32), .int (0 : Int32), .int (0 : Int32), .int (0 : Int32)]) (rest := [.int v12]) X hp (w_X5_spelt e14) q1620 q1621 q144 q1622 6 rfl ds_X5_spelt ⟨Nat.le_of_ble_eq_true rfl, Nat.le_of_ble_eq_true rfl⟩ hl.1 rfl (Nat.le_of_ble_eq_true rfl) dX5_goesOnWith_54 ⟨Nat.le_refl 0, Nat.le_refl 0⟩ (fun H locs hp => ?_)
    refine lv_icmp_ne (tgt := 83) hx hb dX5_goesOnWith_57 (by decide) (fun c16 => ?_) (fun c16 => ?_)
    · have hF := if_n c16 hF
      refine lv_aload_n hx hb dX5_goesOnWith_83 rfl (lv_at hl 0 rfl) ?_
      refine lv_iconst (v := 3) hx hb dX5_goesOnWith_84 (by decide) ?_
      obtain ⟨M19, e17, hF⟩ := ob_s hF
      refine m_callV (As := [.int (3 : Int32)]) (rest := []) X hp (w_X5_closes e17) q1685 q1687 qs82 q144 q1688 1 rfl ds_X5_closes ⟨Nat.le_of_ble_eq_true rfl, Nat.le_of_ble_eq_true rfl⟩ 6 (T := TX5) (N := 40) rfl (by decide) g1 hl.1 rfl (Nat.le_of_ble_eq_true rfl) dX5_goesOnWith_85 ⟨Nat.le_refl 0, Nat.le_refl 0⟩ (fun H locs hp => ?_)
      refine lv_aload_n hx hb dX5_goesOnWith_88 rfl (lv_at hl 0 rfl) ?_
      refine lv_iconst (v := 4) hx hb dX5_goesOnWith_89 (by decide) ?_
      obtain ⟨M22, e20, hF⟩ := ob_s hF
      refine m_callV (As := [.int (4 : Int32)]) (rest := []) X hp (w_X5_closes e20) q1685 q1687 qs82 q144 q1688 1 rfl ds_X5_closes ⟨Nat.le_of_ble_eq_true rfl, Nat.le_of_ble_eq_true rfl⟩ 6 (T := TX5) (N := 40) rfl (by decide) g1 hl.1 rfl (Nat.le_of_ble_eq_true rfl) dX5_goesOnWith_90 ⟨Nat.le_refl 0, Nat.le_refl 0⟩ (fun H locs hp => ?_)
      refine lv_iconst (v := 0) hx hb dX5_goesOnWith_93 (by decide) ?_
      cases hF
      exact m_zret X hp rfl dX5_goesOnWith_94
    · have hF := if_p c16 hF
      refine lv_aload_n hx hb dX5_goesOnWith_60 rfl (lv_at hl 0 rfl) ?_
      refine lv_iconst (v := 3) hx hb dX5_goesOnWith_61 (by decide) ?_
      obtain ⟨M25, e23, hF⟩ := ob_s hF
      refine m_callV (As := [.int (3 : Int32)]) (rest := []) X hp (w_X5_closes e23) q1685 q1687 qs82 q144 q1688 1 rfl ds_X5_closes ⟨Nat.le_of_ble_eq_true rfl, Nat.le_of_ble_eq_true rfl⟩ 6 (T := TX5) (N := 40) rfl (by decide) g1 hl.1 rfl (Nat.le_of_ble_eq_true rfl) dX5_goesOnWith_62 ⟨Nat.le_refl 0, Nat.le_refl 0⟩ (fun H locs hp => ?_)
      refine lv_aload_n hx hb dX5_goesOnWith_65 rfl (lv_at hl 0 rfl) ?_
      refine lv_iconst (v := 4) hx hb dX5_goesOnWith_66 (by decide) ?_
      obtain ⟨M28, e26, hF⟩ := ob_s hF
      refine m_callV (As := [.int (4 : Int32)]) (rest := []) X hp (w_X5_closes e26) q1685 q1687 qs82 q144 q1688 1 rfl ds_X5_closes ⟨Nat.le_of_ble_eq_true rfl, Nat.le_of_ble_eq_true rfl⟩ 6 (T := TX5) (N := 40) rfl (by decide) g1 hl.1 rfl (Nat.le_of_ble_eq_true rfl) dX5_goesOnWith_67 ⟨Nat.le_refl 0, Nat.le_refl 0⟩ (fun H locs hp => ?_)
      refine lv_aload_n hx hb dX5_goesOnWith_70 rfl (lv_at hl 0 rfl) ?_
      obtain ⟨v29, e30, hF⟩ := ob_s hF
      refine m_getR X hp e30 kX5 (Nat.le_of_ble_eq_true rfl) q1477 dX5_goesOnWith_71 ?_
      refine lv_aload_n hx hb dX5_goesOnWith_74 rfl (lv_at hl 0 rfl) ?_
      obtain ⟨v31, e32, hF⟩ := ob_s hF
      refine m_getI X hp e32 kX5 (Nat.le_of_ble_eq_true rfl) q1478 dX5_goesOnWith_75 ?_
      refine lv_iconst (v := 4) hx hb dX5_goesOnWith_78 (by decide) ?_
      obtain ⟨M33, e34, hF⟩ := ob_s hF
      refine m_iaW X hp e34 dX5_goesOnWith_79 (fun H locs hp => ?_)
      refine lv_goto (tgt := 95) hx hb dX5_goesOnWith_80 (by decide) ?_
      exact b_X5_goesOnWith_95 X _ _ _ _ _ hp (lv_sub hl [0] rfl) hF
  · have hF := if_p c10 hF
    refine lv_aload_n hx hb dX5_goesOnWith_24 rfl (lv_at hl 0 rfl) ?_
    refine lv_iconst (v := 3) hx hb dX5_goesOnWith_25 (by decide) ?_
    obtain ⟨M37, e35, hF⟩ := ob_s hF
    refine m_callV (As := [.int (3 : Int32)]) (rest := []) X hp (w_X5_closes e35) q1685 q1687 qs82 q144 q1688 1 rfl ds_X5_closes ⟨Nat.le_of_ble_eq_true rfl, Nat.le_of_ble_eq_true rfl⟩ 6 (T := TX5) (N := 40) rfl (by decide) g1 hl.1 rfl (Nat.le_of_ble_eq_true rfl) dX5_goesOnWith_26 ⟨Nat.le_refl 0, Nat.le_refl 0⟩ (fun H locs hp => ?_)
    refine lv_aload_n hx hb dX5_goesOnWith_29 rfl (lv_at hl 0 rfl) ?_
    obtain ⟨v38, e39, hF⟩ := ob_s hF
    refine m_getR X hp e39 kX5 (Nat.le_of_ble_eq_true rfl) q1477 dX5_goesOnWith_30 ?_
    refine lv_aload_n hx hb dX5_goesOnWith_33 rfl (lv_at hl 0 rfl) ?_
    obtain ⟨v40, e41, hF⟩ := ob_s hF
    refine m_getI X hp e41 kX5 (Nat.le_of_ble_eq_true rfl) q1478 dX5_goesOnWith_34 ?_
    refine lv_iconst (v := 3) hx hb dX5_goesOnWith_37 (by decide) ?_
    obtain ⟨M42, e43, hF⟩ := ob_s hF
    refine m_iaW X hp e43 dX5_goesOnWith_38 (fun H locs hp => ?_)
    refine lv_goto (tgt := 95) hx hb dX5_goesOnWith_39 (by decide) ?_
    exact b_X5_goesOnWith_95 X _ _ _ _ _ hp (lv_sub hl [0] rfl) hF
end
section
variable {l : Launch} {D : va_G} {n0 : Nat} {P : mP} {S : mSh} {M : mMm} {n : Nat} {p : Program} {e : Env} {s : State} {m : MethodId} {args : Array Value} {below : List Frame} {meth : Method} {c : Code}
abbrev Rm_X5_goesRound : Room := { frames := 1, cells := 0, slots := 0, locals := 20 }
def fb_X5_goesRound_211 (S : mSh) (k31 : mMm → Nat → Int32 → Option mMm) (M : mMm) (x0 : Nat) (x1 : Int32) : Option mMm := nm (x1 + (1 : Int32)) fun v97 => (k31 M x0 v97)
theorem b_X5_goesRound_211 {M' : mMm} (X : mCx D n0 P p m c cX5_goesRound 4 s args yX5_goesRound.cls meth none) (k31 : mMm → Nat → Int32 → Option mMm) (hk31 : ∀ (M : mMm) (x0 : Nat) (x1 : Int32) (H : Heap) (locs : List Loc) (ls : Array Slot), mHp D n0 S M n s H locs → lv_has ls 4 [(0, .ref x0), (1, .int x1)] → k31 M x0 x1 = some M' → W p l e Rm_X5_goesRound s m args below meth c H locs 0 0 (MQ below (mQ D n0 none S M' n) args s 0 0 (mA n0)) (F0 m 31 ls [])) : ∀ (M : mMm) (x0 : Nat) (x1 : Int32) (H : Heap) (locs : List Loc) (ls : Array Slot), mHp D n0 S M n s H locs → lv_has ls 4 [(0, .ref x0), (1, .int x1)] → fb_X5_goesRound_211 S k31 M x0 x1 = some M' → W p l e Rm_X5_goesRound s m args below meth c H locs 0 0 (MQ below (mQ D n0 none S M' n) args s 0 0 (mA n0)) (F0 m 211 ls []) := by
  have hx := X.1.1
  have hb := X.1.2.1
  have hown := X.1.2.2.2.1
  have hts := X.1.2.2.2.2
  intro M x0 x1 H locs ls hp hl hF
  unfold fb_X5_goesRound_211 at hF
  obtain ⟨v97, ev98⟩ : ∃ y : Int32, y = x1 + (1 : Int32) := ⟨_, rfl⟩
  have hF := nm_s hF ev98
  refine lv_iinc (v := v97) (lv' := [(1, .int v97), (0, .ref x0)]) hx hb dX5_goesRound_211 hl (k := 1) rfl (by rw [ev98]; rfl) (by decide) rfl (fun ls hl => ?_)
  refine lv_goto (tgt := 31) hx hb dX5_goesRound_214 (by decide) ?_
  exact hk31 _ _ _ _ _ _ hp (lv_sub hl [1, 0] rfl) hF
def fb_X5_goesRound_78 (S : mSh) (k31 : mMm → Nat → Int32 → Option mMm) (M : mMm) (x0 : Nat) (x1 : Int32) (x2 : Int32) (y0 : Int32) (y1 : Int32) (y2 : Nat) : Option mMm := ob (wF S M y2 6 29 (.int (y1 + y0))) fun M30 => (if x2 = 0 then ob (rI S M30 x0 6 29) fun v33 => nm (((v33 + (24 : Int32)) - (v33 + (24 : Int32)) / (4 : Int32) * (4 : Int32))) fun v35 => ob (rR S M30 x0 6 26) fun v37 => ob (rI S M30 x0 6 28) fun v39 => ob (rR S M30 x0 6 26) fun v41 => ob (rI S M30 x0 6 28) fun v43 => ob (aI S M30 v41 100 (v43 - (1 : Int32))) fun v45 => ob (f_X5_goesX v35) fun v48 => ob (wA S M30 v37 100 v39 (.int (v45 + v48))) fun M49 => ob (rR S M49 x0 6 27) fun v51 => ob (rI S M49 x0 6 28) fun v53 => ob (rR S M49 x0 6 27) fun v55 => ob (rI S M49 x0 6 28) fun v57 => ob (aI S M49 v55 100 (v57 - (1 : Int32))) fun v59 => ob (f_X5_goesY v35) fun v62 => ob (wA S M49 v51 100 v53 (.int (v59 + v62))) fun M63 => ob (rI S M63 x0 6 30) fun v65 => ob (rR S M63 x0 6 26) fun v67 => ob (rI S M63 x0 6 28) fun v69 => ob (aI S M63 v67 100 (v69 - (1 : Int32))) fun v71 => ob (rR S M63 x0 6 27) fun v73 => ob (rI S M63 x0 6 28) fun v75 => ob (aI S M63 v73 100 v75) fun v77 => ob (rR S M63 x0 6 26) fun v79 => ob (rI S M63 x0 6 28) fun v81 => ob (aI S M63 v79 100 v81) fun v83 => ob (rR S M63 x0 6 27) fun v85 => ob (rI S M63 x0 6 28) fun v87 => ob (aI S M63 v85 100 (v87 - (1 : Int32))) fun v89 => ob (wF S M63 x0 6 30 (.int (v65 + ((v71 * v77) - (v83 * v89))))) fun M91 => ob (rI S M91 x0 6 28) fun v93 => ob (wF S M91 x0 6 28 (.int (v93 + (1 : Int32)))) fun M95 => (fb_X5_goesRound_211 S k31 M95 x0 x1) else (fb_X5_goesRound_211 S k31 M30 x0 x1))
theorem b_X5_goesRound_78 {M' : mMm} (X : mCx D n0 P p m c cX5_goesRound 4 s args yX5_goesRound.cls meth none) (k31 : mMm → Nat → Int32 → Option mMm) (hk31 : ∀ (M : mMm) (x0 : Nat) (x1 : Int32) (H : Heap) (locs : List Loc) (ls : Array Slot), mHp D n0 S M n s H locs → lv_has ls 4 [(0, .ref x0), (1, .int x1)] → k31 M x0 x1 = some M' → W p l e Rm_X5_goesRound s m args below meth c H locs 0 0 (MQ below (mQ D n0 none S M' n) args s 0 0 (mA n0)) (F0 m 31 ls [])) : ∀ (M : mMm) (x0 : Nat) (x1 : Int32) (x2 : Int32) (y0 : Int32) (y1 : Int32) (y2 : Nat) (H : Heap) (locs : List Loc) (ls : Array Slot), mHp D n0 S M n s H locs → lv_has ls 4 [(0, .ref x0), (1, .int x1), (2, .int x2)] → fb_X5_goesRound_78 S k31 M x0 x1 x2 y0 y1 y2 = some M' → W p l e Rm_X5_goesRound s m args below meth c H locs 0 0 (MQ below (mQ D n0 none S M' n) args s 0 0 (mA n0)) (F0 m 78 ls [.int y0, .int y1, .ref y2]) := by
  have hx := X.1.1
  have hb := X.1.2.1
  have hown := X.1.2.2.2.1
  have hts := X.1.2.2.2.2
  intro M x0 x1 x2 y0 y1 y2 H locs ls hp hl hF
  unfold fb_X5_goesRound_78 at hF
  refine lv_iadd hx hb dX5_goesRound_78 ?_
  obtain ⟨M30, e31, hF⟩ := ob_s hF
  refine m_putW X hp e31 kX5 (Nat.le_of_ble_eq_true rfl) q1488 rfl rfl rfl dX5_goesRound_79 (fun H locs hp => ?_)
  refine lv_iload_n hx hb dX5_goesRound_82 rfl (lv_at hl 2 rfl) ?_
  refine lv_if_eq (tgt := 89) hx hb dX5_goesRound_83 (by decide) (fun c32 => ?_) (fun c32 => ?_)
  · have hF := if_p c32 hF
    refine lv_aload_n hx hb dX5_goesRound_89 rfl (lv_at hl 0 rfl) ?_
    obtain ⟨v33, e34, hF⟩ := ob_s hF
    refine m_getI X hp e34 kX5 (Nat.le_of_ble_eq_true rfl) q1488 dX5_goesRound_90 ?_
    refine lv_bipush (v := 24) hx hb dX5_goesRound_93 (by decide) ?_
    refine lv_iadd hx hb dX5_goesRound_95 ?_
    refine lv_iconst (v := 4) hx hb dX5_goesRound_96 (by decide) ?_
    refine lv_irem hx hb dX5_goesRound_97 (by decide) ?_
    refine lv_topi (fun v35 ev36 => ?_)
    have hF := nm_s hF ev36
    refine lv_istore_n (lv' := [(3, .int v35), (0, .ref x0), (1, .int x1), (2, .int x2)]) hx hb dX5_goesRound_98 rfl hl (by decide) rfl (fun ls hl => ?_)
    refine lv_aload_n hx hb dX5_goesRound_99 rfl (lv_at hl 1 rfl) ?_
    obtain ⟨v37, e38, hF⟩ := ob_s hF
    refine m_getR X hp e38 kX5 (Nat.le_of_ble_eq_true rfl) q1485 dX5_goesRound_100 ?_
    refine lv_aload_n hx hb dX5_goesRound_103 rfl (lv_at hl 1 rfl) ?_
    obtain ⟨v39, e40, hF⟩ := ob_s hF
    refine m_getI X hp e40 kX5 (Nat.le_of_ble_eq_true rfl) q1487 dX5_goesRound_104 ?_
    refine lv_aload_n hx hb dX5_goesRound_107 rfl (lv_at hl 1 rfl) ?_
    obtain ⟨v41, e42, hF⟩ := ob_s hF
    refine m_getR X hp e42 kX5 (Nat.le_of_ble_eq_true rfl) q1485 dX5_goesRound_108 ?_
    refine lv_aload_n hx hb dX5_goesRound_111 rfl (lv_at hl 1 rfl) ?_
    obtain ⟨v43, e44, hF⟩ := ob_s hF
    refine m_getI X hp e44 kX5 (Nat.le_of_ble_eq_true rfl) q1487 dX5_goesRound_112 ?_
    refine lv_iconst (v := 1) hx hb dX5_goesRound_115 (by decide) ?_
    refine lv_isub hx hb dX5_goesRound_116 ?_
    obtain ⟨v45, e46, hF⟩ := ob_s hF
    refine m_iaI X hp e46 dX5_goesRound_117 ?_
    refine lv_iload_n hx hb dX5_goesRound_118 rfl (lv_at hl 0 rfl) ?_
    obtain ⟨v48, e47, hF⟩ := ob_s hF
    refine m_callS (As := [.int v35]) (rest := [.int v45, .int v39, .ref v37]) X hp (w_X5_goesX e47) q1762 q1763 q144 q1764 1 rfl ds_X5_goesX ⟨Nat.le_of_ble_eq_true rfl, Nat.le_of_ble_eq_true rfl⟩ hl.1 rfl (Nat.le_of_ble_eq_true rfl) dX5_goesRound_119 ⟨Nat.le_refl 0, Nat.le_refl 0⟩ (fun H locs hp => ?_)
    refine lv_iadd hx hb dX5_goesRound_122 ?_
    obtain ⟨M49, e50, hF⟩ := ob_s hF
    refine m_iaW X hp e50 dX5_goesRound_123 (fun H locs hp => ?_)
    refine lv_aload_n hx hb dX5_goesRound_124 rfl (lv_at hl 1 rfl) ?_
    obtain ⟨v51, e52, hF⟩ := ob_s hF
    refine m_getR X hp e52 kX5 (Nat.le_of_ble_eq_true rfl) q1486 dX5_goesRound_125 ?_
    refine lv_aload_n hx hb dX5_goesRound_128 rfl (lv_at hl 1 rfl) ?_
    obtain ⟨v53, e54, hF⟩ := ob_s hF
    refine m_getI X hp e54 kX5 (Nat.le_of_ble_eq_true rfl) q1487 dX5_goesRound_129 ?_
    refine lv_aload_n hx hb dX5_goesRound_132 rfl (lv_at hl 1 rfl) ?_
    obtain ⟨v55, e56, hF⟩ := ob_s hF
    refine m_getR X hp e56 kX5 (Nat.le_of_ble_eq_true rfl) q1486 dX5_goesRound_133 ?_
    refine lv_aload_n hx hb dX5_goesRound_136 rfl (lv_at hl 1 rfl) ?_
    obtain ⟨v57, e58, hF⟩ := ob_s hF
    refine m_getI X hp e58 kX5 (Nat.le_of_ble_eq_true rfl) q1487 dX5_goesRound_137 ?_
    refine lv_iconst (v := 1) hx hb dX5_goesRound_140 (by decide) ?_
    refine lv_isub hx hb dX5_goesRound_141 ?_
    obtain ⟨v59, e60, hF⟩ := ob_s hF
    refine m_iaI X hp e60 dX5_goesRound_142 ?_
    refine lv_iload_n hx hb dX5_goesRound_143 rfl (lv_at hl 0 rfl) ?_
    obtain ⟨v62, e61, hF⟩ := ob_s hF
    refine m_callS (As := [.int v35]) (rest := [.int v59, .int v53, .ref v51]) X hp (w_X5_goesY e61) q1765 q1766 q144 q1767 1 rfl ds_X5_goesY ⟨Nat.le_of_ble_eq_true rfl, Nat.le_of_ble_eq_true rfl⟩ hl.1 rfl (Nat.le_of_ble_eq_true rfl) dX5_goesRound_144 ⟨Nat.le_refl 0, Nat.le_refl 0⟩ (fun H locs hp => ?_)
    refine lv_iadd hx hb dX5_goesRound_147 ?_
    obtain ⟨M63, e64, hF⟩ := ob_s hF
    refine m_iaW X hp e64 dX5_goesRound_148 (fun H locs hp => ?_)
    refine lv_aload_n hx hb dX5_goesRound_149 rfl (lv_at hl 1 rfl) ?_
    refine lv_dup hx hb dX5_goesRound_150 rfl ?_
    obtain ⟨v65, e66, hF⟩ := ob_s hF
    refine m_getI X hp e66 kX5 (Nat.le_of_ble_eq_true rfl) q1489 dX5_goesRound_151 ?_
    refine lv_aload_n hx hb dX5_goesRound_154 rfl (lv_at hl 1 rfl) ?_
    obtain ⟨v67, e68, hF⟩ := ob_s hF
    refine m_getR X hp e68 kX5 (Nat.le_of_ble_eq_true rfl) q1485 dX5_goesRound_155 ?_
    refine lv_aload_n hx hb dX5_goesRound_158 rfl (lv_at hl 1 rfl) ?_
    obtain ⟨v69, e70, hF⟩ := ob_s hF
    refine m_getI X hp e70 kX5 (Nat.le_of_ble_eq_true rfl) q1487 dX5_goesRound_159 ?_
    refine lv_iconst (v := 1) hx hb dX5_goesRound_162 (by decide) ?_
    refine lv_isub hx hb dX5_goesRound_163 ?_
    obtain ⟨v71, e72, hF⟩ := ob_s hF
    refine m_iaI X hp e72 dX5_goesRound_164 ?_
    refine lv_aload_n hx hb dX5_goesRound_165 rfl (lv_at hl 1 rfl) ?_
    obtain ⟨v73, e74, hF⟩ := ob_s hF
    refine m_getR X hp e74 kX5 (Nat.le_of_ble_eq_true rfl) q1486 dX5_goesRound_166 ?_
    refine lv_aload_n hx hb dX5_goesRound_169 rfl (lv_at hl 1 rfl) ?_
    obtain ⟨v75, e76, hF⟩ := ob_s hF
    refine m_getI X hp e76 kX5 (Nat.le_of_ble_eq_true rfl) q1487 dX5_goesRound_170 ?_
    obtain ⟨v77, e78, hF⟩ := ob_s hF
    refine m_iaI X hp e78 dX5_goesRound_173 ?_
    refine lv_imul hx hb dX5_goesRound_174 ?_
    refine lv_aload_n hx hb dX5_goesRound_175 rfl (lv_at hl 1 rfl) ?_
    obtain ⟨v79, e80, hF⟩ := ob_s hF
    refine m_getR X hp e80 kX5 (Nat.le_of_ble_eq_true rfl) q1485 dX5_goesRound_176 ?_
    refine lv_aload_n hx hb dX5_goesRound_179 rfl (lv_at hl 1 rfl) ?_
    obtain ⟨v81, e82, hF⟩ := ob_s hF
    refine m_getI X hp e82 kX5 (Nat.le_of_ble_eq_true rfl) q1487 dX5_goesRound_180 ?_
    obtain ⟨v83, e84, hF⟩ := ob_s hF
    refine m_iaI X hp e84 dX5_goesRound_183 ?_
    refine lv_aload_n hx hb dX5_goesRound_184 rfl (lv_at hl 1 rfl) ?_
    obtain ⟨v85, e86, hF⟩ := ob_s hF
    refine m_getR X hp e86 kX5 (Nat.le_of_ble_eq_true rfl) q1486 dX5_goesRound_185 ?_
    refine lv_aload_n hx hb dX5_goesRound_188 rfl (lv_at hl 1 rfl) ?_
    obtain ⟨v87, e88, hF⟩ := ob_s hF
    refine m_getI X hp e88 kX5 (Nat.le_of_ble_eq_true rfl) q1487 dX5_goesRound_189 ?_
    refine lv_iconst (v := 1) hx hb dX5_goesRound_192 (by decide) ?_
    refine lv_isub hx hb dX5_goesRound_193 ?_
    obtain ⟨v89, e90, hF⟩ := ob_s hF
    refine m_iaI X hp e90 dX5_goesRound_194 ?_
    refine lv_imul hx hb dX5_goesRound_195 ?_
    refine lv_isub hx hb dX5_goesRound_196 ?_
    refine lv_iadd hx hb dX5_goesRound_197 ?_
    obtain ⟨M91, e92, hF⟩ := ob_s hF
    refine m_putW X hp e92 kX5 (Nat.le_of_ble_eq_true rfl) q1489 rfl rfl rfl dX5_goesRound_198 (fun H locs hp => ?_)
    refine lv_aload_n hx hb dX5_goesRound_201 rfl (lv_at hl 1 rfl) ?_
    refine lv_dup hx hb dX5_goesRound_202 rfl ?_
    obtain ⟨v93, e94, hF⟩ := ob_s hF
    refine m_getI X hp e94 kX5 (Nat.le_of_ble_eq_true rfl) q1487 dX5_goesRound_203 ?_
    refine lv_iconst (v := 1) hx hb dX5_goesRound_206 (by decide) ?_
    refine lv_iadd hx hb dX5_goesRound_207 ?_
    obtain ⟨M95, e96, hF⟩ := ob_s hF
    refine m_putW X hp e96 kX5 (Nat.le_of_ble_eq_true rfl) q1487 rfl rfl rfl dX5_goesRound_208 (fun H locs hp => ?_)
    exact b_X5_goesRound_211 X _ hk31 _ _ _ _ _ _ hp (lv_sub hl [1, 2] rfl) hF
  · have hF := if_n c32 hF
    refine lv_goto (tgt := 211) hx hb dX5_goesRound_86 (by decide) ?_
    exact b_X5_goesRound_211 X _ hk31 _ _ _ _ _ _ hp (lv_sub hl [0, 1] rfl) hF
def fb_X5_goesRound_31 (S : mSh) : Nat → mMm → Nat → Int32 → Option mMm
  | 0, _, _, _ => none
  | t + 1, M, x0, x1 => ob (rR S M x0 6 0) fun v17 => ob (aI S M v17 100 (2383 : Int32)) fun v19 => (if v19 ≤ x1 then some M else ob (rR S M x0 6 0) fun v22 => ob (aI S M v22 100 ((2384 : Int32) + x1)) fun v24 => ob (rI S M x0 6 29) fun v26 => (if v24 = (2 : Int32) then (fb_X5_goesRound_78 S (fb_X5_goesRound_31 S t) M x0 x1 v24 (1 : Int32) v26 x0) else (if v24 = (1 : Int32) then (fb_X5_goesRound_78 S (fb_X5_goesRound_31 S t) M x0 x1 v24 (-1 : Int32) v26 x0) else (fb_X5_goesRound_78 S (fb_X5_goesRound_31 S t) M x0 x1 v24 (0 : Int32) v26 x0))))
theorem b_X5_goesRound_31 {M' : mMm} (X : mCx D n0 P p m c cX5_goesRound 4 s args yX5_goesRound.cls meth none) : ∀ t : Nat, ∀ (M : mMm) (x0 : Nat) (x1 : Int32) (H : Heap) (locs : List Loc) (ls : Array Slot), mHp D n0 S M n s H locs → lv_has ls 4 [(0, .ref x0), (1, .int x1)] → fb_X5_goesRound_31 S t M x0 x1 = some M' → W p l e Rm_X5_goesRound s m args below meth c H locs 0 0 (MQ below (mQ D n0 none S M' n) args s 0 0 (mA n0)) (F0 m 31 ls []) := by
  have hx := X.1.1
  have hb := X.1.2.1
  have hown := X.1.2.2.2.1
  have hts := X.1.2.2.2.2
  intro t
  induction t with
  | zero =>
    intro M x0 x1 H locs ls hp hl hF
    have hF : none = some M' := hF
    cases hF
  | succ t ih =>
    intro M x0 x1 H locs ls hp hl hF
    rw [fb_X5_goesRound_31] at hF
    refine lv_iload_n hx hb dX5_goesRound_31 rfl (lv_at hl 1 rfl) ?_
    refine lv_aload_n hx hb dX5_goesRound_32 rfl (lv_at hl 0 rfl) ?_
    obtain ⟨v17, e18, hF⟩ := ob_s hF
    refine m_getR X hp e18 kX5 (Nat.le_of_ble_eq_true rfl) q1459 dX5_goesRound_33 ?_
    refine lv_sipush (v := 2383) hx hb dX5_goesRound_36 (by decide) ?_
    obtain ⟨v19, e20, hF⟩ := ob_s hF
    refine m_iaI X hp e20 dX5_goesRound_39 ?_
    refine lv_icmp_ge (tgt := 217) hx hb dX5_goesRound_40 (by decide) (fun c21 => ?_) (fun c21 => ?_)
    · have hF := if_p c21 hF
      cases hF
      exact m_vret X hp dX5_goesRound_217
    · have hF := if_n c21 hF
      refine lv_aload_n hx hb dX5_goesRound_43 rfl (lv_at hl 0 rfl) ?_
      obtain ⟨v22, e23, hF⟩ := ob_s hF
      refine m_getR X hp e23 kX5 (Nat.le_of_ble_eq_true rfl) q1459 dX5_goesRound_44 ?_
      refine lv_sipush (v := 2384) hx hb dX5_goesRound_47 (by decide) ?_
      refine lv_iload_n hx hb dX5_goesRound_50 rfl (lv_at hl 1 rfl) ?_
      refine lv_iadd hx hb dX5_goesRound_51 ?_
      obtain ⟨v24, e25, hF⟩ := ob_s hF
      refine m_iaI X hp e25 dX5_goesRound_52 ?_
      refine lv_istore_n (lv' := [(2, .int v24), (0, .ref x0), (1, .int x1)]) hx hb dX5_goesRound_53 rfl hl (by decide) rfl (fun ls hl => ?_)
      refine lv_aload_n hx hb dX5_goesRound_54 rfl (lv_at hl 1 rfl) ?_
      refine lv_dup hx hb dX5_goesRound_55 rfl ?_
      obtain ⟨v26, e27, hF⟩ := ob_s hF
      refine m_getI X hp e27 kX5 (Nat.le_of_ble_eq_true rfl) q1488 dX5_goesRound_56 ?_
      refine lv_iload_n hx hb dX5_goesRound_59 rfl (lv_at hl 0 rfl) ?_
      refine lv_iconst (v := 2) hx hb dX5_goesRound_60 (by decide) ?_
      refine lv_icmp_ne (tgt := 68) hx hb dX5_goesRound_61 (by decide) (fun c28 => ?_) (fun c28 => ?_)
      · have hF := if_n c28 hF
        refine lv_iload_n hx hb dX5_goesRound_68 rfl (lv_at hl 0 rfl) ?_
        refine lv_iconst (v := 1) hx hb dX5_goesRound_69 (by decide) ?_
        refine lv_icmp_ne (tgt := 77) hx hb dX5_goesRound_70 (by decide) (fun c29 => ?_) (fun c29 => ?_)
        · have hF := if_n c29 hF
          refine lv_iconst (v := 0) hx hb dX5_goesRound_77 (by decide) ?_
          exact b_X5_goesRound_78 X _ ih _ _ _ _ _ _ _ _ _ _ hp (lv_sub hl [1, 2, 0] rfl) hF
        · have hF := if_p c29 hF
          refine lv_iconst (v := -1) hx hb dX5_goesRound_73 (by decide) ?_
          refine lv_goto (tgt := 78) hx hb dX5_goesRound_74 (by decide) ?_
          exact b_X5_goesRound_78 X _ ih _ _ _ _ _ _ _ _ _ _ hp (lv_sub hl [1, 2, 0] rfl) hF
      · have hF := if_p c28 hF
        refine lv_iconst (v := 1) hx hb dX5_goesRound_64 (by decide) ?_
        refine lv_goto (tgt := 78) hx hb dX5_goesRound_65 (by decide) ?_
        exact b_X5_goesRound_78 X _ ih _ _ _ _ _ _ _ _ _ _ hp (lv_sub hl [1, 2, 0] rfl) hF
def f_X5_goesRound (S : mSh) (M : mMm) (x0 : Nat) : Option mMm := ob (wF S M x0 6 28 (.int (1 : Int32))) fun M1 => ob (rR S M1 x0 6 26) fun v3 => ob (wA S M1 v3 100 (0 : Int32) (.int (0 : Int32))) fun M5 => ob (rR S M5 x0 6 27) fun v7 => ob (wA S M5 v7 100 (0 : Int32) (.int (0 : Int32))) fun M9 => ob (wF S M9 x0 6 29 (.int (0 : Int32))) fun M11 => ob (wF S M11 x0 6 30 (.int (0 : Int32))) fun M13 => nm ((0 : Int32)) fun v15 => (fb_X5_goesRound_31 S FU M13 x0 v15)
theorem w_X5_goesRound {x0 : Nat} {M' : mMm} (hF : f_X5_goesRound S M x0 = some M') : mCt l D n0 P yX5_goesRound cX5_goesRound 4 none 1 20 0 0 [.ref x0] S M n none S M' n := by
  refine m_ofW (by decide) (Nat.le_of_ble_eq_true rfl) (fun p e s m below meth c X hnm hp ls hl => ?_)
  have hx := X.1.1
  have hb := X.1.2.1
  have hown := X.1.2.2.2.1
  have hts := X.1.2.2.2.2
  have hl : lv_has ls 4 [(0, .ref x0)] := hl
  unfold f_X5_goesRound at hF
  refine lv_aload_n hx hb dX5_goesRound_0 rfl (lv_at hl 0 rfl) ?_
  refine lv_iconst (v := 1) hx hb dX5_goesRound_1 (by decide) ?_
  obtain ⟨M1, e2, hF⟩ := ob_s hF
  refine m_putW X hp e2 kX5 (Nat.le_of_ble_eq_true rfl) q1487 rfl rfl rfl dX5_goesRound_2 (fun H locs hp => ?_)
  refine lv_aload_n hx hb dX5_goesRound_5 rfl (lv_at hl 0 rfl) ?_
  obtain ⟨v3, e4, hF⟩ := ob_s hF
  refine m_getR X hp e4 kX5 (Nat.le_of_ble_eq_true rfl) q1485 dX5_goesRound_6 ?_
  refine lv_iconst (v := 0) hx hb dX5_goesRound_9 (by decide) ?_
  refine lv_iconst (v := 0) hx hb dX5_goesRound_10 (by decide) ?_
  obtain ⟨M5, e6, hF⟩ := ob_s hF
  refine m_iaW X hp e6 dX5_goesRound_11 (fun H locs hp => ?_)
  refine lv_aload_n hx hb dX5_goesRound_12 rfl (lv_at hl 0 rfl) ?_
  obtain ⟨v7, e8, hF⟩ := ob_s hF
  refine m_getR X hp e8 kX5 (Nat.le_of_ble_eq_true rfl) q1486 dX5_goesRound_13 ?_
  refine lv_iconst (v := 0) hx hb dX5_goesRound_16 (by decide) ?_
  refine lv_iconst (v := 0) hx hb dX5_goesRound_17 (by decide) ?_
  obtain ⟨M9, e10, hF⟩ := ob_s hF
  refine m_iaW X hp e10 dX5_goesRound_18 (fun H locs hp => ?_)
  refine lv_aload_n hx hb dX5_goesRound_19 rfl (lv_at hl 0 rfl) ?_
  refine lv_iconst (v := 0) hx hb dX5_goesRound_20 (by decide) ?_
  obtain ⟨M11, e12, hF⟩ := ob_s hF
  refine m_putW X hp e12 kX5 (Nat.le_of_ble_eq_true rfl) q1488 rfl rfl rfl dX5_goesRound_21 (fun H locs hp => ?_)
  refine lv_aload_n hx hb dX5_goesRound_24 rfl (lv_at hl 0 rfl) ?_
  refine lv_iconst (v := 0) hx hb dX5_goesRound_25 (by decide) ?_
  obtain ⟨M13, e14, hF⟩ := ob_s hF
  refine m_putW X hp e14 kX5 (Nat.le_of_ble_eq_true rfl) q1489 rfl rfl rfl dX5_goesRound_26 (fun H locs hp => ?_)
  refine lv_iconst (v := 0) hx hb dX5_goesRound_29 (by decide) ?_
  refine lv_topi (fun v15 ev16 => ?_)
  have hF := nm_s hF ev16
  refine lv_istore_n (lv' := [(1, .int v15), (0, .ref x0)]) hx hb dX5_goesRound_30 rfl hl (by decide) rfl (fun ls hl => ?_)
  exact b_X5_goesRound_31 X _ _ _ _ _ _ _ hp (lv_sub hl [1, 0] rfl) hF
end
section
variable {l : Launch} {D : va_G} {n0 : Nat} {P : mP} {S : mSh} {M : mMm} {n : Nat} {p : Program} {e : Env} {s : State} {m : MethodId} {args : Array Value} {below : List Frame} {meth : Method} {c : Code}
abbrev Rm_X5_hedge : Room := { frames := 1, cells := 0, slots := 0, locals := 23 }
def fb_X5_hedge_24 (S : mSh) (k2 : mMm → Nat → Int32 → Option (Int32 × mMm)) (M : mMm) (x0 : Nat) (x1 : Int32) (y0 : Int32) (y1 : Int32) (y2 : Nat) : Option (Int32 × mMm) := ob (wA S M y2 100 y1 (.int y0)) fun M9 => nm (x1 + (1 : Int32)) fun v11 => (k2 M9 x0 v11)
theorem b_X5_hedge_24 {r : Int32} {M' : mMm} (X : mCx D n0 P p m c cX5_hedge 7 s args yX5_hedge.cls meth (some .int)) (k2 : mMm → Nat → Int32 → Option (Int32 × mMm)) (hk2 : ∀ (M : mMm) (x0 : Nat) (x1 : Int32) (H : Heap) (locs : List Loc) (ls : Array Slot), mHp D n0 S M n s H locs → lv_has ls 7 [(0, .ref x0), (1, .int x1)] → k2 M x0 x1 = some (r, M') → W p l e Rm_X5_hedge s m args below meth c H locs 0 0 (MQ below (mQ D n0 (some (.int r)) S M' n) args s 0 0 (mA n0)) (F0 m 2 ls [])) : ∀ (M : mMm) (x0 : Nat) (x1 : Int32) (y0 : Int32) (y1 : Int32) (y2 : Nat) (H : Heap) (locs : List Loc) (ls : Array Slot), mHp D n0 S M n s H locs → lv_has ls 7 [(0, .ref x0), (1, .int x1)] → fb_X5_hedge_24 S k2 M x0 x1 y0 y1 y2 = some (r, M') → W p l e Rm_X5_hedge s m args below meth c H locs 0 0 (MQ below (mQ D n0 (some (.int r)) S M' n) args s 0 0 (mA n0)) (F0 m 24 ls [.int y0, .int y1, .ref y2]) := by
  have hx := X.1.1
  have hb := X.1.2.1
  have hown := X.1.2.2.2.1
  have hts := X.1.2.2.2.2
  intro M x0 x1 y0 y1 y2 H locs ls hp hl hF
  unfold fb_X5_hedge_24 at hF
  obtain ⟨M9, e10, hF⟩ := ob_s hF
  refine m_iaW X hp e10 dX5_hedge_24 (fun H locs hp => ?_)
  obtain ⟨v11, ev12⟩ : ∃ y : Int32, y = x1 + (1 : Int32) := ⟨_, rfl⟩
  have hF := nm_s hF ev12
  refine lv_iinc (v := v11) (lv' := [(1, .int v11), (0, .ref x0)]) hx hb dX5_hedge_25 hl (k := 1) rfl (by rw [ev12]; rfl) (by decide) rfl (fun ls hl => ?_)
  refine lv_goto (tgt := 2) hx hb dX5_hedge_28 (by decide) ?_
  exact hk2 _ _ _ _ _ _ hp (lv_sub hl [1, 0] rfl) hF
def fb_X5_hedge_171 (S : mSh) (k116 : mMm → Nat → Int32 → Int32 → Int32 → Int32 → Int32 → Option (Int32 × mMm)) (M : mMm) (x0 : Nat) (x1 : Int32) (x2 : Int32) (x3 : Int32) (x4 : Int32) (x5 : Int32) (y0 : Int32) (y1 : Int32) (y2 : Nat) : Option (Int32 × mMm) := ob (wA S M y2 100 y1 (.int y0)) fun M79 => nm (x5 + (1 : Int32)) fun v81 => (k116 M79 x0 x1 x2 x3 x4 v81)
theorem b_X5_hedge_171 {r : Int32} {M' : mMm} (X : mCx D n0 P p m c cX5_hedge 7 s args yX5_hedge.cls meth (some .int)) (k116 : mMm → Nat → Int32 → Int32 → Int32 → Int32 → Int32 → Option (Int32 × mMm)) (hk116 : ∀ (M : mMm) (x0 : Nat) (x1 : Int32) (x2 : Int32) (x3 : Int32) (x4 : Int32) (x5 : Int32) (H : Heap) (locs : List Loc) (ls : Array Slot), mHp D n0 S M n s H locs → lv_has ls 7 [(0, .ref x0), (1, .int x1), (2, .int x2), (3, .int x3), (4, .int x4), (5, .int x5)] → k116 M x0 x1 x2 x3 x4 x5 = some (r, M') → W p l e Rm_X5_hedge s m args below meth c H locs 0 0 (MQ below (mQ D n0 (some (.int r)) S M' n) args s 0 0 (mA n0)) (F0 m 116 ls [])) : ∀ (M : mMm) (x0 : Nat) (x1 : Int32) (x2 : Int32) (x3 : Int32) (x4 : Int32) (x5 : Int32) (y0 : Int32) (y1 : Int32) (y2 : Nat) (H : Heap) (locs : List Loc) (ls : Array Slot), mHp D n0 S M n s H locs → lv_has ls 7 [(0, .ref x0), (1, .int x1), (2, .int x2), (3, .int x3), (4, .int x4), (5, .int x5)] → fb_X5_hedge_171 S k116 M x0 x1 x2 x3 x4 x5 y0 y1 y2 = some (r, M') → W p l e Rm_X5_hedge s m args below meth c H locs 0 0 (MQ below (mQ D n0 (some (.int r)) S M' n) args s 0 0 (mA n0)) (F0 m 171 ls [.int y0, .int y1, .ref y2]) := by
  have hx := X.1.1
  have hb := X.1.2.1
  have hown := X.1.2.2.2.1
  have hts := X.1.2.2.2.2
  intro M x0 x1 x2 x3 x4 x5 y0 y1 y2 H locs ls hp hl hF
  unfold fb_X5_hedge_171 at hF
  obtain ⟨M79, e80, hF⟩ := ob_s hF
  refine m_iaW X hp e80 dX5_hedge_171 (fun H locs hp => ?_)
  obtain ⟨v81, ev82⟩ : ∃ y : Int32, y = x5 + (1 : Int32) := ⟨_, rfl⟩
  have hF := nm_s hF ev82
  refine lv_iinc (v := v81) (lv' := [(5, .int v81), (0, .ref x0), (1, .int x1), (2, .int x2), (3, .int x3), (4, .int x4)]) hx hb dX5_hedge_172 hl (k := 5) rfl (by rw [ev82]; rfl) (by decide) rfl (fun ls hl => ?_)
  refine lv_goto (tgt := 116) hx hb dX5_hedge_175 (by decide) ?_
  exact hk116 _ _ _ _ _ _ _ _ _ _ hp (lv_sub hl [1, 2, 3, 4, 5, 0] rfl) hF
def fb_X5_hedge_178 (S : mSh) (k66 : mMm → Nat → Int32 → Int32 → Int32 → Option (Int32 × mMm)) (M : mMm) (x0 : Nat) (x1 : Int32) (x2 : Int32) (x3 : Int32) : Option (Int32 × mMm) := nm (x3 + (1 : Int32)) fun v57 => (k66 M x0 x1 x2 v57)
theorem b_X5_hedge_178 {r : Int32} {M' : mMm} (X : mCx D n0 P p m c cX5_hedge 7 s args yX5_hedge.cls meth (some .int)) (k66 : mMm → Nat → Int32 → Int32 → Int32 → Option (Int32 × mMm)) (hk66 : ∀ (M : mMm) (x0 : Nat) (x1 : Int32) (x2 : Int32) (x3 : Int32) (H : Heap) (locs : List Loc) (ls : Array Slot), mHp D n0 S M n s H locs → lv_has ls 7 [(0, .ref x0), (1, .int x1), (2, .int x2), (3, .int x3)] → k66 M x0 x1 x2 x3 = some (r, M') → W p l e Rm_X5_hedge s m args below meth c H locs 0 0 (MQ below (mQ D n0 (some (.int r)) S M' n) args s 0 0 (mA n0)) (F0 m 66 ls [])) : ∀ (M : mMm) (x0 : Nat) (x1 : Int32) (x2 : Int32) (x3 : Int32) (H : Heap) (locs : List Loc) (ls : Array Slot), mHp D n0 S M n s H locs → lv_has ls 7 [(0, .ref x0), (1, .int x1), (2, .int x2), (3, .int x3)] → fb_X5_hedge_178 S k66 M x0 x1 x2 x3 = some (r, M') → W p l e Rm_X5_hedge s m args below meth c H locs 0 0 (MQ below (mQ D n0 (some (.int r)) S M' n) args s 0 0 (mA n0)) (F0 m 178 ls []) := by
  have hx := X.1.1
  have hb := X.1.2.1
  have hown := X.1.2.2.2.1
  have hts := X.1.2.2.2.2
  intro M x0 x1 x2 x3 H locs ls hp hl hF
  unfold fb_X5_hedge_178 at hF
  obtain ⟨v57, ev58⟩ : ∃ y : Int32, y = x3 + (1 : Int32) := ⟨_, rfl⟩
  have hF := nm_s hF ev58
  refine lv_iinc (v := v57) (lv' := [(3, .int v57), (0, .ref x0), (1, .int x1), (2, .int x2)]) hx hb dX5_hedge_178 hl (k := 3) rfl (by rw [ev58]; rfl) (by decide) rfl (fun ls hl => ?_)
  refine lv_goto (tgt := 66) hx hb dX5_hedge_181 (by decide) ?_
  exact hk66 _ _ _ _ _ _ _ _ hp (lv_sub hl [1, 2, 3, 0] rfl) hF
def fb_X5_hedge_116 (S : mSh) (k66 : mMm → Nat → Int32 → Int32 → Int32 → Option (Int32 × mMm)) : Nat → mMm → Nat → Int32 → Int32 → Int32 → Int32 → Int32 → Option (Int32 × mMm)
  | 0, _, _, _, _, _, _, _ => none
  | t + 1, M, x0, x1, x2, x3, x4, x5 => (if (31 : Int32) ≤ x5 then (fb_X5_hedge_178 S k66 M x0 x1 x2 x3) else ob (rR S M x0 6 31) fun v60 => ob (aI S M v60 100 x5) fun v62 => ob (f_X5_abs (x4 - x5)) fun v65 => nm ((v62 + v65)) fun v66 => ob (rR S M x0 6 32) fun v68 => ob (rR S M x0 6 32) fun v70 => ob (aI S M v70 100 x4) fun v72 => (if v72 ≤ v66 then ob (rR S M x0 6 32) fun v75 => ob (aI S M v75 100 x4) fun v77 => (fb_X5_hedge_171 S (fb_X5_hedge_116 S k66 t) M x0 x1 x2 x3 x4 x5 v77 x4 v68) else (fb_X5_hedge_171 S (fb_X5_hedge_116 S k66 t) M x0 x1 x2 x3 x4 x5 v66 x4 v68)))
theorem b_X5_hedge_116 {r : Int32} {M' : mMm} (X : mCx D n0 P p m c cX5_hedge 7 s args yX5_hedge.cls meth (some .int)) (k66 : mMm → Nat → Int32 → Int32 → Int32 → Option (Int32 × mMm)) (hk66 : ∀ (M : mMm) (x0 : Nat) (x1 : Int32) (x2 : Int32) (x3 : Int32) (H : Heap) (locs : List Loc) (ls : Array Slot), mHp D n0 S M n s H locs → lv_has ls 7 [(0, .ref x0), (1, .int x1), (2, .int x2), (3, .int x3)] → k66 M x0 x1 x2 x3 = some (r, M') → W p l e Rm_X5_hedge s m args below meth c H locs 0 0 (MQ below (mQ D n0 (some (.int r)) S M' n) args s 0 0 (mA n0)) (F0 m 66 ls [])) : ∀ t : Nat, ∀ (M : mMm) (x0 : Nat) (x1 : Int32) (x2 : Int32) (x3 : Int32) (x4 : Int32) (x5 : Int32) (H : Heap) (locs : List Loc) (ls : Array Slot), mHp D n0 S M n s H locs → lv_has ls 7 [(0, .ref x0), (1, .int x1), (2, .int x2), (3, .int x3), (4, .int x4), (5, .int x5)] → fb_X5_hedge_116 S k66 t M x0 x1 x2 x3 x4 x5 = some (r, M') → W p l e Rm_X5_hedge s m args below meth c H locs 0 0 (MQ below (mQ D n0 (some (.int r)) S M' n) args s 0 0 (mA n0)) (F0 m 116 ls []) := by
  have hx := X.1.1
  have hb := X.1.2.1
  have hown := X.1.2.2.2.1
  have hts := X.1.2.2.2.2
  intro t
  induction t with
  | zero =>
    intro M x0 x1 x2 x3 x4 x5 H locs ls hp hl hF
    have hF : none = some (r, M') := hF
    cases hF
  | succ t ih =>
    intro M x0 x1 x2 x3 x4 x5 H locs ls hp hl hF
    rw [fb_X5_hedge_116] at hF
    refine lv_iload hx hb dX5_hedge_116 (lv_at hl 5 rfl) ?_
    refine lv_bipush (v := 31) hx hb dX5_hedge_118 (by decide) ?_
    refine lv_icmp_ge (tgt := 178) hx hb dX5_hedge_120 (by decide) (fun c59 => ?_) (fun c59 => ?_)
    · have hF := if_p c59 hF
      exact b_X5_hedge_178 X _ hk66 _ _ _ _ _ _ _ _ hp (lv_sub hl [0, 1, 2, 3] rfl) hF
    · have hF := if_n c59 hF
      refine lv_aload_n hx hb dX5_hedge_123 rfl (lv_at hl 0 rfl) ?_
      obtain ⟨v60, e61, hF⟩ := ob_s hF
      refine m_getR X hp e61 kX5 (Nat.le_of_ble_eq_true rfl) q1490 dX5_hedge_124 ?_
      refine lv_iload hx hb dX5_hedge_127 (lv_at hl 5 rfl) ?_
      obtain ⟨v62, e63, hF⟩ := ob_s hF
      refine m_iaI X hp e63 dX5_hedge_129 ?_
      refine lv_iload hx hb dX5_hedge_130 (lv_at hl 4 rfl) ?_
      refine lv_iload hx hb dX5_hedge_132 (lv_at hl 5 rfl) ?_
      refine lv_isub hx hb dX5_hedge_134 ?_
      obtain ⟨v65, e64, hF⟩ := ob_s hF
      refine m_callS (As := [.int (x4 - x5)]) (rest := [.int v62]) X hp (w_X5_abs e64) q1951 q1952 q144 q1953 1 rfl ds_X5_abs ⟨Nat.le_of_ble_eq_true rfl, Nat.le_of_ble_eq_true rfl⟩ hl.1 rfl (Nat.le_of_ble_eq_true rfl) dX5_hedge_135 ⟨Nat.le_refl 0, Nat.le_refl 0⟩ (fun H locs hp => ?_)
      refine lv_iadd hx hb dX5_hedge_138 ?_
      refine lv_topi (fun v66 ev67 => ?_)
      have hF := nm_s hF ev67
      refine lv_istore (lv' := [(6, .int v66), (0, .ref x0), (1, .int x1), (2, .int x2), (3, .int x3), (4, .int x4), (5, .int x5)]) hx hb dX5_hedge_139 hl (by decide) rfl (fun ls hl => ?_)
      refine lv_aload_n hx hb dX5_hedge_141 rfl (lv_at hl 1 rfl) ?_
      obtain ⟨v68, e69, hF⟩ := ob_s hF
      refine m_getR X hp e69 kX5 (Nat.le_of_ble_eq_true rfl) q1491 dX5_hedge_142 ?_
      refine lv_iload hx hb dX5_hedge_145 (lv_at hl 5 rfl) ?_
      refine lv_iload hx hb dX5_hedge_147 (lv_at hl 0 rfl) ?_
      refine lv_aload_n hx hb dX5_hedge_149 rfl (lv_at hl 1 rfl) ?_
      obtain ⟨v70, e71, hF⟩ := ob_s hF
      refine m_getR X hp e71 kX5 (Nat.le_of_ble_eq_true rfl) q1491 dX5_hedge_150 ?_
      refine lv_iload hx hb dX5_hedge_153 (lv_at hl 5 rfl) ?_
      obtain ⟨v72, e73, hF⟩ := ob_s hF
      refine m_iaI X hp e73 dX5_hedge_155 ?_
      refine lv_icmp_ge (tgt := 164) hx hb dX5_hedge_156 (by decide) (fun c74 => ?_) (fun c74 => ?_)
      · have hF := if_p c74 hF
        refine lv_aload_n hx hb dX5_hedge_164 rfl (lv_at hl 1 rfl) ?_
        obtain ⟨v75, e76, hF⟩ := ob_s hF
        refine m_getR X hp e76 kX5 (Nat.le_of_ble_eq_true rfl) q1491 dX5_hedge_165 ?_
        refine lv_iload hx hb dX5_hedge_168 (lv_at hl 5 rfl) ?_
        obtain ⟨v77, e78, hF⟩ := ob_s hF
        refine m_iaI X hp e78 dX5_hedge_170 ?_
        exact b_X5_hedge_171 X _ ih _ _ _ _ _ _ _ _ _ _ _ _ _ hp (lv_sub hl [1, 2, 3, 4, 5, 6] rfl) hF
      · have hF := if_n c74 hF
        refine lv_iload hx hb dX5_hedge_159 (lv_at hl 0 rfl) ?_
        refine lv_goto (tgt := 171) hx hb dX5_hedge_161 (by decide) ?_
        exact b_X5_hedge_171 X _ ih _ _ _ _ _ _ _ _ _ _ _ _ _ hp (lv_sub hl [1, 2, 3, 4, 5, 6] rfl) hF
def fb_X5_hedge_201 (S : mSh) (k33 : mMm → Nat → Int32 → Option (Int32 × mMm)) (M : mMm) (x0 : Nat) (x1 : Int32) : Option (Int32 × mMm) := nm (x1 + (1 : Int32)) fun v83 => (k33 M x0 v83)
theorem b_X5_hedge_201 {r : Int32} {M' : mMm} (X : mCx D n0 P p m c cX5_hedge 7 s args yX5_hedge.cls meth (some .int)) (k33 : mMm → Nat → Int32 → Option (Int32 × mMm)) (hk33 : ∀ (M : mMm) (x0 : Nat) (x1 : Int32) (H : Heap) (locs : List Loc) (ls : Array Slot), mHp D n0 S M n s H locs → lv_has ls 7 [(0, .ref x0), (1, .int x1)] → k33 M x0 x1 = some (r, M') → W p l e Rm_X5_hedge s m args below meth c H locs 0 0 (MQ below (mQ D n0 (some (.int r)) S M' n) args s 0 0 (mA n0)) (F0 m 33 ls [])) : ∀ (M : mMm) (x0 : Nat) (x1 : Int32) (H : Heap) (locs : List Loc) (ls : Array Slot), mHp D n0 S M n s H locs → lv_has ls 7 [(0, .ref x0), (1, .int x1)] → fb_X5_hedge_201 S k33 M x0 x1 = some (r, M') → W p l e Rm_X5_hedge s m args below meth c H locs 0 0 (MQ below (mQ D n0 (some (.int r)) S M' n) args s 0 0 (mA n0)) (F0 m 201 ls []) := by
  have hx := X.1.1
  have hb := X.1.2.1
  have hown := X.1.2.2.2.1
  have hts := X.1.2.2.2.2
  intro M x0 x1 H locs ls hp hl hF
  unfold fb_X5_hedge_201 at hF
  obtain ⟨v83, ev84⟩ : ∃ y : Int32, y = x1 + (1 : Int32) := ⟨_, rfl⟩
  have hF := nm_s hF ev84
  refine lv_iinc (v := v83) (lv' := [(1, .int v83), (0, .ref x0)]) hx hb dX5_hedge_201 hl (k := 1) rfl (by rw [ev84]; rfl) (by decide) rfl (fun ls hl => ?_)
  refine lv_goto (tgt := 33) hx hb dX5_hedge_204 (by decide) ?_
  exact hk33 _ _ _ _ _ _ hp (lv_sub hl [1, 0] rfl) hF
def fb_X5_hedge_66 (S : mSh) (k33 : mMm → Nat → Int32 → Option (Int32 × mMm)) : Nat → mMm → Nat → Int32 → Int32 → Int32 → Option (Int32 × mMm)
  | 0, _, _, _, _, _ => none
  | t + 1, M, x0, x1, x2, x3 => ob (rR S M x0 6 0) fun v31 => ob (aI S M v31 100 (2408 : Int32)) fun v33 => (if v33 ≤ x3 then (if x2 = 0 then (fb_X5_hedge_201 S k33 M x0 x1) else ob (rR S M x0 6 32) fun v37 => ob (rR S M x0 6 31) fun v39 => ob (f_X5_copies S M v37 v39 (31 : Int32)) fun M43 => (fb_X5_hedge_201 S k33 M43 x0 x1)) else ob (rR S M x0 6 0) fun v44 => ob (aI S M v44 100 ((2409 : Int32) + ((2 : Int32) * x3))) fun v46 => (if v46 = x1 then nm ((1 : Int32)) fun v49 => ob (rR S M x0 6 0) fun v51 => ob (aI S M v51 100 ((2410 : Int32) + ((2 : Int32) * x3))) fun v53 => nm ((0 : Int32)) fun v55 => (fb_X5_hedge_116 S (fb_X5_hedge_66 S k33 t) FU M x0 x1 v49 x3 v53 v55) else (fb_X5_hedge_178 S (fb_X5_hedge_66 S k33 t) M x0 x1 x2 x3)))
theorem b_X5_hedge_66 {r : Int32} {M' : mMm} (X : mCx D n0 P p m c cX5_hedge 7 s args yX5_hedge.cls meth (some .int)) (k33 : mMm → Nat → Int32 → Option (Int32 × mMm)) (hk33 : ∀ (M : mMm) (x0 : Nat) (x1 : Int32) (H : Heap) (locs : List Loc) (ls : Array Slot), mHp D n0 S M n s H locs → lv_has ls 7 [(0, .ref x0), (1, .int x1)] → k33 M x0 x1 = some (r, M') → W p l e Rm_X5_hedge s m args below meth c H locs 0 0 (MQ below (mQ D n0 (some (.int r)) S M' n) args s 0 0 (mA n0)) (F0 m 33 ls [])) : ∀ t : Nat, ∀ (M : mMm) (x0 : Nat) (x1 : Int32) (x2 : Int32) (x3 : Int32) (H : Heap) (locs : List Loc) (ls : Array Slot), mHp D n0 S M n s H locs → lv_has ls 7 [(0, .ref x0), (1, .int x1), (2, .int x2), (3, .int x3)] → fb_X5_hedge_66 S k33 t M x0 x1 x2 x3 = some (r, M') → W p l e Rm_X5_hedge s m args below meth c H locs 0 0 (MQ below (mQ D n0 (some (.int r)) S M' n) args s 0 0 (mA n0)) (F0 m 66 ls []) := by
  have hx := X.1.1
  have hb := X.1.2.1
  have hown := X.1.2.2.2.1
  have hts := X.1.2.2.2.2
  intro t
  induction t with
  | zero =>
    intro M x0 x1 x2 x3 H locs ls hp hl hF
    have hF : none = some (r, M') := hF
    cases hF
  | succ t ih =>
    intro M x0 x1 x2 x3 H locs ls hp hl hF
    rw [fb_X5_hedge_66] at hF
    refine lv_iload_n hx hb dX5_hedge_66 rfl (lv_at hl 3 rfl) ?_
    refine lv_aload_n hx hb dX5_hedge_67 rfl (lv_at hl 0 rfl) ?_
    obtain ⟨v31, e32, hF⟩ := ob_s hF
    refine m_getR X hp e32 kX5 (Nat.le_of_ble_eq_true rfl) q1459 dX5_hedge_68 ?_
    refine lv_sipush (v := 2408) hx hb dX5_hedge_71 (by decide) ?_
    obtain ⟨v33, e34, hF⟩ := ob_s hF
    refine m_iaI X hp e34 dX5_hedge_74 ?_
    refine lv_icmp_ge (tgt := 184) hx hb dX5_hedge_75 (by decide) (fun c35 => ?_) (fun c35 => ?_)
    · have hF := if_p c35 hF
      refine lv_iload_n hx hb dX5_hedge_184 rfl (lv_at hl 2 rfl) ?_
      refine lv_if_eq (tgt := 201) hx hb dX5_hedge_185 (by decide) (fun c36 => ?_) (fun c36 => ?_)
      · have hF := if_p c36 hF
        exact b_X5_hedge_201 X _ hk33 _ _ _ _ _ _ hp (lv_sub hl [0, 1] rfl) hF
      · have hF := if_n c36 hF
        refine lv_aload_n hx hb dX5_hedge_188 rfl (lv_at hl 0 rfl) ?_
        obtain ⟨v37, e38, hF⟩ := ob_s hF
        refine m_getR X hp e38 kX5 (Nat.le_of_ble_eq_true rfl) q1491 dX5_hedge_189 ?_
        refine lv_aload_n hx hb dX5_hedge_192 rfl (lv_at hl 0 rfl) ?_
        obtain ⟨v39, e40, hF⟩ := ob_s hF
        refine m_getR X hp e40 kX5 (Nat.le_of_ble_eq_true rfl) q1490 dX5_hedge_193 ?_
        refine lv_bipush (v := 31) hx hb dX5_hedge_196 (by decide) ?_
        obtain ⟨M43, e41, hF⟩ := ob_s hF
        refine m_callS (As := [.ref v37, .ref v39, .int (31 : Int32)]) (rest := []) X hp (w_X5_copies e41) q1595 q1596 q144 q1597 3 rfl ds_X5_copies ⟨Nat.le_of_ble_eq_true rfl, Nat.le_of_ble_eq_true rfl⟩ hl.1 rfl (Nat.le_of_ble_eq_true rfl) dX5_hedge_198 ⟨Nat.le_refl 0, Nat.le_refl 0⟩ (fun H locs hp => ?_)
        exact b_X5_hedge_201 X _ hk33 _ _ _ _ _ _ hp (lv_sub hl [0, 1] rfl) hF
    · have hF := if_n c35 hF
      refine lv_aload_n hx hb dX5_hedge_78 rfl (lv_at hl 0 rfl) ?_
      obtain ⟨v44, e45, hF⟩ := ob_s hF
      refine m_getR X hp e45 kX5 (Nat.le_of_ble_eq_true rfl) q1459 dX5_hedge_79 ?_
      refine lv_sipush (v := 2409) hx hb dX5_hedge_82 (by decide) ?_
      refine lv_iconst (v := 2) hx hb dX5_hedge_85 (by decide) ?_
      refine lv_iload_n hx hb dX5_hedge_86 rfl (lv_at hl 3 rfl) ?_
      refine lv_imul hx hb dX5_hedge_87 ?_
      refine lv_iadd hx hb dX5_hedge_88 ?_
      obtain ⟨v46, e47, hF⟩ := ob_s hF
      refine m_iaI X hp e47 dX5_hedge_89 ?_
      refine lv_iload_n hx hb dX5_hedge_90 rfl (lv_at hl 1 rfl) ?_
      refine lv_icmp_eq (tgt := 97) hx hb dX5_hedge_91 (by decide) (fun c48 => ?_) (fun c48 => ?_)
      · have hF := if_p c48 hF
        refine lv_iconst (v := 1) hx hb dX5_hedge_97 (by decide) ?_
        refine lv_topi (fun v49 ev50 => ?_)
        have hF := nm_s hF ev50
        refine lv_istore_n (lv' := [(2, .int v49), (0, .ref x0), (1, .int x1), (3, .int x3)]) hx hb dX5_hedge_98 rfl hl (by decide) rfl (fun ls hl => ?_)
        refine lv_aload_n hx hb dX5_hedge_99 rfl (lv_at hl 1 rfl) ?_
        obtain ⟨v51, e52, hF⟩ := ob_s hF
        refine m_getR X hp e52 kX5 (Nat.le_of_ble_eq_true rfl) q1459 dX5_hedge_100 ?_
        refine lv_sipush (v := 2410) hx hb dX5_hedge_103 (by decide) ?_
        refine lv_iconst (v := 2) hx hb dX5_hedge_106 (by decide) ?_
        refine lv_iload_n hx hb dX5_hedge_107 rfl (lv_at hl 3 rfl) ?_
        refine lv_imul hx hb dX5_hedge_108 ?_
        refine lv_iadd hx hb dX5_hedge_109 ?_
        obtain ⟨v53, e54, hF⟩ := ob_s hF
        refine m_iaI X hp e54 dX5_hedge_110 ?_
        refine lv_istore (lv' := [(4, .int v53), (2, .int v49), (0, .ref x0), (1, .int x1), (3, .int x3)]) hx hb dX5_hedge_111 hl (by decide) rfl (fun ls hl => ?_)
        refine lv_iconst (v := 0) hx hb dX5_hedge_113 (by decide) ?_
        refine lv_topi (fun v55 ev56 => ?_)
        have hF := nm_s hF ev56
        refine lv_istore (lv' := [(5, .int v55), (4, .int v53), (2, .int v49), (0, .ref x0), (1, .int x1), (3, .int x3)]) hx hb dX5_hedge_114 hl (by decide) rfl (fun ls hl => ?_)
        exact b_X5_hedge_116 X _ ih _ _ _ _ _ _ _ _ _ _ _ hp (lv_sub hl [3, 4, 2, 5, 1, 0] rfl) hF
      · have hF := if_n c48 hF
        refine lv_goto (tgt := 178) hx hb dX5_hedge_94 (by decide) ?_
        exact b_X5_hedge_178 X _ ih _ _ _ _ _ _ _ _ hp (lv_sub hl [0, 1, 2, 3] rfl) hF
def fb_X5_hedge_43 (S : mSh) (k33 : mMm → Nat → Int32 → Option (Int32 × mMm)) : Nat → mMm → Nat → Int32 → Int32 → Int32 → Option (Int32 × mMm)
  | 0, _, _, _, _, _ => none
  | t + 1, M, x0, x1, x2, x3 => (if (31 : Int32) ≤ x3 then nm ((0 : Int32)) fun v23 => (fb_X5_hedge_66 S k33 FU M x0 x1 x2 v23) else ob (rR S M x0 6 32) fun v25 => ob (wA S M v25 100 x3 (.int (9999 : Int32))) fun M27 => nm (x3 + (1 : Int32)) fun v29 => (fb_X5_hedge_43 S k33 t M27 x0 x1 x2 v29))
theorem b_X5_hedge_43 {r : Int32} {M' : mMm} (X : mCx D n0 P p m c cX5_hedge 7 s args yX5_hedge.cls meth (some .int)) (k33 : mMm → Nat → Int32 → Option (Int32 × mMm)) (hk33 : ∀ (M : mMm) (x0 : Nat) (x1 : Int32) (H : Heap) (locs : List Loc) (ls : Array Slot), mHp D n0 S M n s H locs → lv_has ls 7 [(0, .ref x0), (1, .int x1)] → k33 M x0 x1 = some (r, M') → W p l e Rm_X5_hedge s m args below meth c H locs 0 0 (MQ below (mQ D n0 (some (.int r)) S M' n) args s 0 0 (mA n0)) (F0 m 33 ls [])) : ∀ t : Nat, ∀ (M : mMm) (x0 : Nat) (x1 : Int32) (x2 : Int32) (x3 : Int32) (H : Heap) (locs : List Loc) (ls : Array Slot), mHp D n0 S M n s H locs → lv_has ls 7 [(0, .ref x0), (1, .int x1), (2, .int x2), (3, .int x3)] → fb_X5_hedge_43 S k33 t M x0 x1 x2 x3 = some (r, M') → W p l e Rm_X5_hedge s m args below meth c H locs 0 0 (MQ below (mQ D n0 (some (.int r)) S M' n) args s 0 0 (mA n0)) (F0 m 43 ls []) := by
  have hx := X.1.1
  have hb := X.1.2.1
  have hown := X.1.2.2.2.1
  have hts := X.1.2.2.2.2
  intro t
  induction t with
  | zero =>
    intro M x0 x1 x2 x3 H locs ls hp hl hF
    have hF : none = some (r, M') := hF
    cases hF
  | succ t ih =>
    intro M x0 x1 x2 x3 H locs ls hp hl hF
    rw [fb_X5_hedge_43] at hF
    refine lv_iload_n hx hb dX5_hedge_43 rfl (lv_at hl 3 rfl) ?_
    refine lv_bipush (v := 31) hx hb dX5_hedge_44 (by decide) ?_
    refine lv_icmp_ge (tgt := 64) hx hb dX5_hedge_46 (by decide) (fun c22 => ?_) (fun c22 => ?_)
    · have hF := if_p c22 hF
      refine lv_iconst (v := 0) hx hb dX5_hedge_64 (by decide) ?_
      refine lv_topi (fun v23 ev24 => ?_)
      have hF := nm_s hF ev24
      refine lv_istore_n (lv' := [(3, .int v23), (0, .ref x0), (1, .int x1), (2, .int x2)]) hx hb dX5_hedge_65 rfl hl (by decide) rfl (fun ls hl => ?_)
      exact b_X5_hedge_66 X _ hk33 _ _ _ _ _ _ _ _ _ hp (lv_sub hl [1, 2, 3, 0] rfl) hF
    · have hF := if_n c22 hF
      refine lv_aload_n hx hb dX5_hedge_49 rfl (lv_at hl 0 rfl) ?_
      obtain ⟨v25, e26, hF⟩ := ob_s hF
      refine m_getR X hp e26 kX5 (Nat.le_of_ble_eq_true rfl) q1491 dX5_hedge_50 ?_
      refine lv_iload_n hx hb dX5_hedge_53 rfl (lv_at hl 3 rfl) ?_
      refine lv_sipush (v := 9999) hx hb dX5_hedge_54 (by decide) ?_
      obtain ⟨M27, e28, hF⟩ := ob_s hF
      refine m_iaW X hp e28 dX5_hedge_57 (fun H locs hp => ?_)
      obtain ⟨v29, ev30⟩ : ∃ y : Int32, y = x3 + (1 : Int32) := ⟨_, rfl⟩
      have hF := nm_s hF ev30
      refine lv_iinc (v := v29) (lv' := [(3, .int v29), (0, .ref x0), (1, .int x1), (2, .int x2)]) hx hb dX5_hedge_58 hl (k := 3) rfl (by rw [ev30]; rfl) (by decide) rfl (fun ls hl => ?_)
      refine lv_goto (tgt := 43) hx hb dX5_hedge_61 (by decide) ?_
      exact ih _ _ _ _ _ _ _ _ hp (lv_sub hl [1, 2, 3, 0] rfl) hF
def fb_X5_hedge_243 (S : mSh) (k213 : mMm → Nat → Int32 → Int32 → Option (Int32 × mMm)) (M : mMm) (x0 : Nat) (x2 : Int32) (y0 : Int32) : Option (Int32 × mMm) := nm (x2 + (1 : Int32)) fun v95 => (k213 M x0 y0 v95)
theorem b_X5_hedge_243 {r : Int32} {M' : mMm} (X : mCx D n0 P p m c cX5_hedge 7 s args yX5_hedge.cls meth (some .int)) (k213 : mMm → Nat → Int32 → Int32 → Option (Int32 × mMm)) (hk213 : ∀ (M : mMm) (x0 : Nat) (x1 : Int32) (x2 : Int32) (H : Heap) (locs : List Loc) (ls : Array Slot), mHp D n0 S M n s H locs → lv_has ls 7 [(0, .ref x0), (1, .int x1), (2, .int x2)] → k213 M x0 x1 x2 = some (r, M') → W p l e Rm_X5_hedge s m args below meth c H locs 0 0 (MQ below (mQ D n0 (some (.int r)) S M' n) args s 0 0 (mA n0)) (F0 m 213 ls [])) : ∀ (M : mMm) (x0 : Nat) (x2 : Int32) (y0 : Int32) (H : Heap) (locs : List Loc) (ls : Array Slot), mHp D n0 S M n s H locs → lv_has ls 7 [(0, .ref x0), (2, .int x2)] → fb_X5_hedge_243 S k213 M x0 x2 y0 = some (r, M') → W p l e Rm_X5_hedge s m args below meth c H locs 0 0 (MQ below (mQ D n0 (some (.int r)) S M' n) args s 0 0 (mA n0)) (F0 m 243 ls [.int y0]) := by
  have hx := X.1.1
  have hb := X.1.2.1
  have hown := X.1.2.2.2.1
  have hts := X.1.2.2.2.2
  intro M x0 x2 y0 H locs ls hp hl hF
  unfold fb_X5_hedge_243 at hF
  refine lv_istore_n (lv' := [(1, .int y0), (0, .ref x0), (2, .int x2)]) hx hb dX5_hedge_243 rfl hl (by decide) rfl (fun ls hl => ?_)
  obtain ⟨v95, ev96⟩ : ∃ y : Int32, y = x2 + (1 : Int32) := ⟨_, rfl⟩
  have hF := nm_s hF ev96
  refine lv_iinc (v := v95) (lv' := [(2, .int v95), (1, .int y0), (0, .ref x0)]) hx hb dX5_hedge_244 hl (k := 2) rfl (by rw [ev96]; rfl) (by decide) rfl (fun ls hl => ?_)
  refine lv_goto (tgt := 213) hx hb dX5_hedge_247 (by decide) ?_
  exact hk213 _ _ _ _ _ _ _ hp (lv_sub hl [2, 1, 0] rfl) hF
def fb_X5_hedge_213 (S : mSh) : Nat → mMm → Nat → Int32 → Int32 → Option (Int32 × mMm)
  | 0, _, _, _, _ => none
  | t + 1, M, x0, x1, x2 => (if (31 : Int32) ≤ x2 then some (x1, M) else ob (rR S M x0 6 31) fun v86 => ob (aI S M v86 100 x2) fun v88 => (if x1 ≤ (v88 + x2) then (fb_X5_hedge_243 S (fb_X5_hedge_213 S t) M x0 x2 x1) else ob (rR S M x0 6 31) fun v91 => ob (aI S M v91 100 x2) fun v93 => (fb_X5_hedge_243 S (fb_X5_hedge_213 S t) M x0 x2 (v93 + x2))))
theorem b_X5_hedge_213 {r : Int32} {M' : mMm} (X : mCx D n0 P p m c cX5_hedge 7 s args yX5_hedge.cls meth (some .int)) : ∀ t : Nat, ∀ (M : mMm) (x0 : Nat) (x1 : Int32) (x2 : Int32) (H : Heap) (locs : List Loc) (ls : Array Slot), mHp D n0 S M n s H locs → lv_has ls 7 [(0, .ref x0), (1, .int x1), (2, .int x2)] → fb_X5_hedge_213 S t M x0 x1 x2 = some (r, M') → W p l e Rm_X5_hedge s m args below meth c H locs 0 0 (MQ below (mQ D n0 (some (.int r)) S M' n) args s 0 0 (mA n0)) (F0 m 213 ls []) := by
  have hx := X.1.1
  have hb := X.1.2.1
  have hown := X.1.2.2.2.1
  have hts := X.1.2.2.2.2
  intro t
  induction t with
  | zero =>
    intro M x0 x1 x2 H locs ls hp hl hF
    have hF : none = some (r, M') := hF
    cases hF
  | succ t ih =>
    intro M x0 x1 x2 H locs ls hp hl hF
    rw [fb_X5_hedge_213] at hF
    refine lv_iload_n hx hb dX5_hedge_213 rfl (lv_at hl 2 rfl) ?_
    refine lv_bipush (v := 31) hx hb dX5_hedge_214 (by decide) ?_
    refine lv_icmp_ge (tgt := 250) hx hb dX5_hedge_216 (by decide) (fun c85 => ?_) (fun c85 => ?_)
    · have hF := if_p c85 hF
      refine lv_iload_n hx hb dX5_hedge_250 rfl (lv_at hl 1 rfl) ?_
      cases hF
      exact m_iret X hp dX5_hedge_251
    · have hF := if_n c85 hF
      refine lv_aload_n hx hb dX5_hedge_219 rfl (lv_at hl 0 rfl) ?_
      obtain ⟨v86, e87, hF⟩ := ob_s hF
      refine m_getR X hp e87 kX5 (Nat.le_of_ble_eq_true rfl) q1490 dX5_hedge_220 ?_
      refine lv_iload_n hx hb dX5_hedge_223 rfl (lv_at hl 2 rfl) ?_
      obtain ⟨v88, e89, hF⟩ := ob_s hF
      refine m_iaI X hp e89 dX5_hedge_224 ?_
      refine lv_iload_n hx hb dX5_hedge_225 rfl (lv_at hl 2 rfl) ?_
      refine lv_iadd hx hb dX5_hedge_226 ?_
      refine lv_iload_n hx hb dX5_hedge_227 rfl (lv_at hl 1 rfl) ?_
      refine lv_icmp_ge (tgt := 242) hx hb dX5_hedge_228 (by decide) (fun c90 => ?_) (fun c90 => ?_)
      · have hF := if_p c90 hF
        refine lv_iload_n hx hb dX5_hedge_242 rfl (lv_at hl 1 rfl) ?_
        exact b_X5_hedge_243 X _ ih _ _ _ _ _ _ _ hp (lv_sub hl [0, 2] rfl) hF
      · have hF := if_n c90 hF
        refine lv_aload_n hx hb dX5_hedge_231 rfl (lv_at hl 0 rfl) ?_
        obtain ⟨v91, e92, hF⟩ := ob_s hF
        refine m_getR X hp e92 kX5 (Nat.le_of_ble_eq_true rfl) q1490 dX5_hedge_232 ?_
        refine lv_iload_n hx hb dX5_hedge_235 rfl (lv_at hl 2 rfl) ?_
        obtain ⟨v93, e94, hF⟩ := ob_s hF
        refine m_iaI X hp e94 dX5_hedge_236 ?_
        refine lv_iload_n hx hb dX5_hedge_237 rfl (lv_at hl 2 rfl) ?_
        refine lv_iadd hx hb dX5_hedge_238 ?_
        refine lv_goto (tgt := 243) hx hb dX5_hedge_239 (by decide) ?_
        exact b_X5_hedge_243 X _ ih _ _ _ _ _ _ _ hp (lv_sub hl [0, 2] rfl) hF
def fb_X5_hedge_33 (S : mSh) : Nat → mMm → Nat → Int32 → Option (Int32 × mMm)
  | 0, _, _, _ => none
  | t + 1, M, x0, x1 => (if (8 : Int32) ≤ x1 then nm ((9999 : Int32)) fun v14 => nm ((0 : Int32)) fun v16 => (fb_X5_hedge_213 S FU M x0 v14 v16) else nm ((0 : Int32)) fun v18 => nm ((0 : Int32)) fun v20 => (fb_X5_hedge_43 S (fb_X5_hedge_33 S t) FU M x0 x1 v18 v20))
theorem b_X5_hedge_33 {r : Int32} {M' : mMm} (X : mCx D n0 P p m c cX5_hedge 7 s args yX5_hedge.cls meth (some .int)) : ∀ t : Nat, ∀ (M : mMm) (x0 : Nat) (x1 : Int32) (H : Heap) (locs : List Loc) (ls : Array Slot), mHp D n0 S M n s H locs → lv_has ls 7 [(0, .ref x0), (1, .int x1)] → fb_X5_hedge_33 S t M x0 x1 = some (r, M') → W p l e Rm_X5_hedge s m args below meth c H locs 0 0 (MQ below (mQ D n0 (some (.int r)) S M' n) args s 0 0 (mA n0)) (F0 m 33 ls []) := by
  have hx := X.1.1
  have hb := X.1.2.1
  have hown := X.1.2.2.2.1
  have hts := X.1.2.2.2.2
  intro t
  induction t with
  | zero =>
    intro M x0 x1 H locs ls hp hl hF
    have hF : none = some (r, M') := hF
    cases hF
  | succ t ih =>
    intro M x0 x1 H locs ls hp hl hF
    rw [fb_X5_hedge_33] at hF
    refine lv_iload_n hx hb dX5_hedge_33 rfl (lv_at hl 1 rfl) ?_
    refine lv_bipush (v := 8) hx hb dX5_hedge_34 (by decide) ?_
    refine lv_icmp_ge (tgt := 207) hx hb dX5_hedge_36 (by decide) (fun c13 => ?_) (fun c13 => ?_)
    · have hF := if_p c13 hF
      refine lv_sipush (v := 9999) hx hb dX5_hedge_207 (by decide) ?_
      refine lv_topi (fun v14 ev15 => ?_)
      have hF := nm_s hF ev15
      refine lv_istore_n (lv' := [(1, .int v14), (0, .ref x0)]) hx hb dX5_hedge_210 rfl hl (by decide) rfl (fun ls hl => ?_)
      refine lv_iconst (v := 0) hx hb dX5_hedge_211 (by decide) ?_
      refine lv_topi (fun v16 ev17 => ?_)
      have hF := nm_s hF ev17
      refine lv_istore_n (lv' := [(2, .int v16), (1, .int v14), (0, .ref x0)]) hx hb dX5_hedge_212 rfl hl (by decide) rfl (fun ls hl => ?_)
      exact b_X5_hedge_213 X _ _ _ _ _ _ _ _ hp (lv_sub hl [2, 1, 0] rfl) hF
    · have hF := if_n c13 hF
      refine lv_iconst (v := 0) hx hb dX5_hedge_39 (by decide) ?_
      refine lv_topi (fun v18 ev19 => ?_)
      have hF := nm_s hF ev19
      refine lv_istore_n (lv' := [(2, .int v18), (0, .ref x0), (1, .int x1)]) hx hb dX5_hedge_40 rfl hl (by decide) rfl (fun ls hl => ?_)
      refine lv_iconst (v := 0) hx hb dX5_hedge_41 (by decide) ?_
      refine lv_topi (fun v20 ev21 => ?_)
      have hF := nm_s hF ev21
      refine lv_istore_n (lv' := [(3, .int v20), (2, .int v18), (0, .ref x0), (1, .int x1)]) hx hb dX5_hedge_42 rfl hl (by decide) rfl (fun ls hl => ?_)
      exact b_X5_hedge_43 X _ ih _ _ _ _ _ _ _ _ _ hp (lv_sub hl [2, 3, 1, 0] rfl) hF
def fb_X5_hedge_2 (S : mSh) : Nat → mMm → Nat → Int32 → Option (Int32 × mMm)
  | 0, _, _, _ => none
  | t + 1, M, x0, x1 => (if (31 : Int32) ≤ x1 then nm ((0 : Int32)) fun v4 => (fb_X5_hedge_33 S FU M x0 v4) else ob (rR S M x0 6 31) fun v6 => (if x1 = 0 then (fb_X5_hedge_24 S (fb_X5_hedge_2 S t) M x0 x1 (0 : Int32) x1 v6) else (fb_X5_hedge_24 S (fb_X5_hedge_2 S t) M x0 x1 (9999 : Int32) x1 v6)))
theorem b_X5_hedge_2 {r : Int32} {M' : mMm} (X : mCx D n0 P p m c cX5_hedge 7 s args yX5_hedge.cls meth (some .int)) : ∀ t : Nat, ∀ (M : mMm) (x0 : Nat) (x1 : Int32) (H : Heap) (locs : List Loc) (ls : Array Slot), mHp D n0 S M n s H locs → lv_has ls 7 [(0, .ref x0), (1, .int x1)] → fb_X5_hedge_2 S t M x0 x1 = some (r, M') → W p l e Rm_X5_hedge s m args below meth c H locs 0 0 (MQ below (mQ D n0 (some (.int r)) S M' n) args s 0 0 (mA n0)) (F0 m 2 ls []) := by
  have hx := X.1.1
  have hb := X.1.2.1
  have hown := X.1.2.2.2.1
  have hts := X.1.2.2.2.2
  intro t
  induction t with
  | zero =>
    intro M x0 x1 H locs ls hp hl hF
    have hF : none = some (r, M') := hF
    cases hF
  | succ t ih =>
    intro M x0 x1 H locs ls hp hl hF
    rw [fb_X5_hedge_2] at hF
    refine lv_iload_n hx hb dX5_hedge_2 rfl (lv_at hl 1 rfl) ?_
    refine lv_bipush (v := 31) hx hb dX5_hedge_3 (by decide) ?_
    refine lv_icmp_ge (tgt := 31) hx hb dX5_hedge_5 (by decide) (fun c3 => ?_) (fun c3 => ?_)
    · have hF := if_p c3 hF
      refine lv_iconst (v := 0) hx hb dX5_hedge_31 (by decide) ?_
      refine lv_topi (fun v4 ev5 => ?_)
      have hF := nm_s hF ev5
      refine lv_istore_n (lv' := [(1, .int v4), (0, .ref x0)]) hx hb dX5_hedge_32 rfl hl (by decide) rfl (fun ls hl => ?_)
      exact b_X5_hedge_33 X _ _ _ _ _ _ _ hp (lv_sub hl [1, 0] rfl) hF
    · have hF := if_n c3 hF
      refine lv_aload_n hx hb dX5_hedge_8 rfl (lv_at hl 0 rfl) ?_
      obtain ⟨v6, e7, hF⟩ := ob_s hF
      refine m_getR X hp e7 kX5 (Nat.le_of_ble_eq_true rfl) q1490 dX5_hedge_9 ?_
      refine lv_iload_n hx hb dX5_hedge_12 rfl (lv_at hl 1 rfl) ?_
      refine lv_iload_n hx hb dX5_hedge_13 rfl (lv_at hl 1 rfl) ?_
      refine lv_if_ne (tgt := 21) hx hb dX5_hedge_14 (by decide) (fun c8 => ?_) (fun c8 => ?_)
      · have hF := if_n c8 hF
        refine lv_sipush (v := 9999) hx hb dX5_hedge_21 (by decide) ?_
        exact b_X5_hedge_24 X _ ih _ _ _ _ _ _ _ _ _ hp (lv_sub hl [0, 1] rfl) hF
      · have hF := if_p c8 hF
        refine lv_iconst (v := 0) hx hb dX5_hedge_17 (by decide) ?_
        refine lv_goto (tgt := 24) hx hb dX5_hedge_18 (by decide) ?_
        exact b_X5_hedge_24 X _ ih _ _ _ _ _ _ _ _ _ hp (lv_sub hl [0, 1] rfl) hF
def f_X5_hedge (S : mSh) (M : mMm) (x0 : Nat) : Option (Int32 × mMm) := nm ((0 : Int32)) fun v1 => (fb_X5_hedge_2 S FU M x0 v1)
theorem w_X5_hedge {x0 : Nat} {r : Int32} {M' : mMm} (hF : f_X5_hedge S M x0 = some (r, M')) : mCt l D n0 P yX5_hedge cX5_hedge 7 (some .int) 1 23 0 0 [.ref x0] S M n (some (.int r)) S M' n := by
  refine m_ofW (by decide) (Nat.le_of_ble_eq_true rfl) (fun p e s m below meth c X hnm hp ls hl => ?_)
  have hx := X.1.1
  have hb := X.1.2.1
  have hown := X.1.2.2.2.1
  have hts := X.1.2.2.2.2
  have hl : lv_has ls 7 [(0, .ref x0)] := hl
  unfold f_X5_hedge at hF
  refine lv_iconst (v := 0) hx hb dX5_hedge_0 (by decide) ?_
  refine lv_topi (fun v1 ev2 => ?_)
  have hF := nm_s hF ev2
  refine lv_istore_n (lv' := [(1, .int v1), (0, .ref x0)]) hx hb dX5_hedge_1 rfl hl (by decide) rfl (fun ls hl => ?_)
  exact b_X5_hedge_2 X _ _ _ _ _ _ _ hp (lv_sub hl [1, 0] rfl) hF
end
section
variable {l : Launch} {D : va_G} {n0 : Nat} {P : mP} {S : mSh} {M : mMm} {n : Nat} {p : Program} {e : Env} {s : State} {m : MethodId} {args : Array Value} {below : List Frame} {meth : Method} {c : Code}
abbrev Rm_X5_plus : Room := { frames := 0, cells := 0, slots := 0, locals := 0 }
def f_X5_plus (x0 : Int32) (x1 : Int32) : Option Int32 := (if x0 < ((1000000007 : Int32) - x1) then some (x0 + x1) else some (x0 - ((1000000007 : Int32) - x1)))
theorem w_X5_plus {x0 : Int32} {x1 : Int32} {r : Int32} (hF : f_X5_plus x0 x1 = some r) : mCt l D n0 P yX5_plus cX5_plus 2 (some .int) 0 0 0 0 [.int x0, .int x1] S M n (some (.int r)) S M n := by
  refine m_ofW (by decide) (Nat.le_of_ble_eq_true rfl) (fun p e s m below meth c X hnm hp ls hl => ?_)
  have hx := X.1.1
  have hb := X.1.2.1
  have hown := X.1.2.2.2.1
  have hts := X.1.2.2.2.2
  have hl : lv_has ls 2 [(0, .int x0), (1, .int x1)] := hl
  unfold f_X5_plus at hF
  refine lv_iload_n hx hb dX5_plus_0 rfl (lv_at hl 0 rfl) ?_
  refine lv_ldcw hx hb hown (hts _ q1938) dX5_plus_1 ?_
  refine lv_iload_n hx hb dX5_plus_4 rfl (lv_at hl 1 rfl) ?_
  refine lv_isub hx hb dX5_plus_5 ?_
  refine lv_icmp_lt (tgt := 19) hx hb dX5_plus_6 (by decide) (fun c1 => ?_) (fun c1 => ?_)
  · have hF := if_p c1 hF
    refine lv_iload_n hx hb dX5_plus_19 rfl (lv_at hl 0 rfl) ?_
    refine lv_iload_n hx hb dX5_plus_20 rfl (lv_at hl 1 rfl) ?_
    refine lv_iadd hx hb dX5_plus_21 ?_
    cases hF
    exact m_iret X hp dX5_plus_22
  · have hF := if_n c1 hF
    refine lv_iload_n hx hb dX5_plus_9 rfl (lv_at hl 0 rfl) ?_
    refine lv_ldcw hx hb hown (hts _ q1938) dX5_plus_10 ?_
    refine lv_iload_n hx hb dX5_plus_13 rfl (lv_at hl 1 rfl) ?_
    refine lv_isub hx hb dX5_plus_14 ?_
    refine lv_isub hx hb dX5_plus_15 ?_
    refine lv_goto (tgt := 22) hx hb dX5_plus_16 (by decide) ?_
    cases hF
    exact m_iret X hp dX5_plus_22
end
section
variable {l : Launch} {D : va_G} {n0 : Nat} {P : mP} {S : mSh} {M : mMm} {n : Nat} {p : Program} {e : Env} {s : State} {m : MethodId} {args : Array Value} {below : List Frame} {meth : Method} {c : Code}
abbrev Rm_X5_hooks : Room := { frames := 1, cells := 0, slots := 0, locals := 23 }
def fb_X5_hooks_42 (S : mSh) (k23 : mMm → Nat → Int32 → Int32 → Int32 → Option (Int32 × mMm)) (M : mMm) (x0 : Nat) (x1 : Int32) (x2 : Int32) (x3 : Int32) (y0 : Int32) (y1 : Int32) (y2 : Nat) : Option (Int32 × mMm) := ob (wA S M y2 100 y1 (.int y0)) fun M17 => nm (x3 + (1 : Int32)) fun v19 => (k23 M17 x0 x1 x2 v19)
theorem b_X5_hooks_42 {r : Int32} {M' : mMm} (X : mCx D n0 P p m c cX5_hooks 5 s args yX5_hooks.cls meth (some .int)) (k23 : mMm → Nat → Int32 → Int32 → Int32 → Option (Int32 × mMm)) (hk23 : ∀ (M : mMm) (x0 : Nat) (x1 : Int32) (x2 : Int32) (x3 : Int32) (H : Heap) (locs : List Loc) (ls : Array Slot), mHp D n0 S M n s H locs → lv_has ls 5 [(0, .ref x0), (1, .int x1), (2, .int x2), (3, .int x3)] → k23 M x0 x1 x2 x3 = some (r, M') → W p l e Rm_X5_hooks s m args below meth c H locs 0 0 (MQ below (mQ D n0 (some (.int r)) S M' n) args s 0 0 (mA n0)) (F0 m 23 ls [])) : ∀ (M : mMm) (x0 : Nat) (x1 : Int32) (x2 : Int32) (x3 : Int32) (y0 : Int32) (y1 : Int32) (y2 : Nat) (H : Heap) (locs : List Loc) (ls : Array Slot), mHp D n0 S M n s H locs → lv_has ls 5 [(0, .ref x0), (1, .int x1), (2, .int x2), (3, .int x3)] → fb_X5_hooks_42 S k23 M x0 x1 x2 x3 y0 y1 y2 = some (r, M') → W p l e Rm_X5_hooks s m args below meth c H locs 0 0 (MQ below (mQ D n0 (some (.int r)) S M' n) args s 0 0 (mA n0)) (F0 m 42 ls [.int y0, .int y1, .ref y2]) := by
  have hx := X.1.1
  have hb := X.1.2.1
  have hown := X.1.2.2.2.1
  have hts := X.1.2.2.2.2
  intro M x0 x1 x2 x3 y0 y1 y2 H locs ls hp hl hF
  unfold fb_X5_hooks_42 at hF
  obtain ⟨M17, e18, hF⟩ := ob_s hF
  refine m_iaW X hp e18 dX5_hooks_42 (fun H locs hp => ?_)
  obtain ⟨v19, ev20⟩ : ∃ y : Int32, y = x3 + (1 : Int32) := ⟨_, rfl⟩
  have hF := nm_s hF ev20
  refine lv_iinc (v := v19) (lv' := [(3, .int v19), (0, .ref x0), (1, .int x1), (2, .int x2)]) hx hb dX5_hooks_43 hl (k := 3) rfl (by rw [ev20]; rfl) (by decide) rfl (fun ls hl => ?_)
  refine lv_goto (tgt := 23) hx hb dX5_hooks_46 (by decide) ?_
  exact hk23 _ _ _ _ _ _ _ _ hp (lv_sub hl [1, 2, 3, 0] rfl) hF
def fb_X5_hooks_56 (S : mSh) : Nat → mMm → Nat → Int32 → Int32 → Int32 → Option (Int32 × mMm)
  | 0, _, _, _, _, _ => none
  | t + 1, M, x0, x1, x3, x4 => (if x1 ≤ x4 then ob (rR S M x0 6 35) fun v22 => ob (aI S M v22 100 (0 : Int32)) fun v24 => some (v24, M) else ob (rR S M x0 6 36) fun v26 => ob (rR S M x0 6 35) fun v28 => ob (aI S M v28 100 (3 : Int32)) fun v30 => ob (rR S M x0 6 35) fun v32 => ob (aI S M v32 100 (0 : Int32)) fun v34 => ob (f_X5_plus v30 (x3 * v34)) fun v37 => ob (wA S M v26 100 (0 : Int32) (.int v37)) fun M38 => ob (rR S M38 x0 6 36) fun v40 => ob (rR S M38 x0 6 35) fun v42 => ob (aI S M38 v42 100 (0 : Int32)) fun v44 => ob (rR S M38 x0 6 35) fun v46 => ob (aI S M38 v46 100 (2 : Int32)) fun v48 => ob (f_X5_plus v44 (x3 * v48)) fun v51 => ob (wA S M38 v40 100 (1 : Int32) (.int v51)) fun M52 => ob (rR S M52 x0 6 36) fun v54 => ob (rR S M52 x0 6 35) fun v56 => ob (aI S M52 v56 100 (0 : Int32)) fun v58 => ob (rR S M52 x0 6 35) fun v60 => ob (aI S M52 v60 100 (1 : Int32)) fun v62 => ob (f_X5_plus v58 (x3 * v62)) fun v65 => ob (wA S M52 v54 100 (2 : Int32) (.int v65)) fun M66 => ob (rR S M66 x0 6 36) fun v68 => ob (rR S M66 x0 6 35) fun v70 => ob (aI S M66 v70 100 (1 : Int32)) fun v72 => ob (rR S M66 x0 6 35) fun v74 => ob (aI S M66 v74 100 (2 : Int32)) fun v76 => ob (f_X5_plus v72 v76) fun v79 => ob (rR S M66 x0 6 35) fun v80 => ob (aI S M66 v80 100 (0 : Int32)) fun v82 => ob (f_X5_plus v79 (x3 * v82)) fun v85 => ob (wA S M66 v68 100 (3 : Int32) (.int v85)) fun M86 => ob (rR S M86 x0 6 36) fun v88 => ob (rR S M86 x0 6 35) fun v90 => ob (f_X5_copies S M86 v88 v90 (4 : Int32)) fun M94 => nm (x4 + (1 : Int32)) fun v95 => (fb_X5_hooks_56 S t M94 x0 x1 x3 v95))
theorem b_X5_hooks_56 {r : Int32} {M' : mMm} (X : mCx D n0 P p m c cX5_hooks 5 s args yX5_hooks.cls meth (some .int)) : ∀ t : Nat, ∀ (M : mMm) (x0 : Nat) (x1 : Int32) (x3 : Int32) (x4 : Int32) (H : Heap) (locs : List Loc) (ls : Array Slot), mHp D n0 S M n s H locs → lv_has ls 5 [(0, .ref x0), (1, .int x1), (3, .int x3), (4, .int x4)] → fb_X5_hooks_56 S t M x0 x1 x3 x4 = some (r, M') → W p l e Rm_X5_hooks s m args below meth c H locs 0 0 (MQ below (mQ D n0 (some (.int r)) S M' n) args s 0 0 (mA n0)) (F0 m 56 ls []) := by
  have hx := X.1.1
  have hb := X.1.2.1
  have hown := X.1.2.2.2.1
  have hts := X.1.2.2.2.2
  intro t
  induction t with
  | zero =>
    intro M x0 x1 x3 x4 H locs ls hp hl hF
    have hF : none = some (r, M') := hF
    cases hF
  | succ t ih =>
    intro M x0 x1 x3 x4 H locs ls hp hl hF
    rw [fb_X5_hooks_56] at hF
    refine lv_iload hx hb dX5_hooks_56 (lv_at hl 3 rfl) ?_
    refine lv_iload_n hx hb dX5_hooks_58 rfl (lv_at hl 1 rfl) ?_
    refine lv_icmp_ge (tgt := 181) hx hb dX5_hooks_59 (by decide) (fun c21 => ?_) (fun c21 => ?_)
    · have hF := if_p c21 hF
      refine lv_aload_n hx hb dX5_hooks_181 rfl (lv_at hl 0 rfl) ?_
      obtain ⟨v22, e23, hF⟩ := ob_s hF
      refine m_getR X hp e23 kX5 (Nat.le_of_ble_eq_true rfl) q1494 dX5_hooks_182 ?_
      refine lv_iconst (v := 0) hx hb dX5_hooks_185 (by decide) ?_
      obtain ⟨v24, e25, hF⟩ := ob_s hF
      refine m_iaI X hp e25 dX5_hooks_186 ?_
      cases hF
      exact m_iret X hp dX5_hooks_187
    · have hF := if_n c21 hF
      refine lv_aload_n hx hb dX5_hooks_62 rfl (lv_at hl 0 rfl) ?_
      obtain ⟨v26, e27, hF⟩ := ob_s hF
      refine m_getR X hp e27 kX5 (Nat.le_of_ble_eq_true rfl) q1495 dX5_hooks_63 ?_
      refine lv_iconst (v := 0) hx hb dX5_hooks_66 (by decide) ?_
      refine lv_aload_n hx hb dX5_hooks_67 rfl (lv_at hl 0 rfl) ?_
      obtain ⟨v28, e29, hF⟩ := ob_s hF
      refine m_getR X hp e29 kX5 (Nat.le_of_ble_eq_true rfl) q1494 dX5_hooks_68 ?_
      refine lv_iconst (v := 3) hx hb dX5_hooks_71 (by decide) ?_
      obtain ⟨v30, e31, hF⟩ := ob_s hF
      refine m_iaI X hp e31 dX5_hooks_72 ?_
      refine lv_iload_n hx hb dX5_hooks_73 rfl (lv_at hl 2 rfl) ?_
      refine lv_aload_n hx hb dX5_hooks_74 rfl (lv_at hl 0 rfl) ?_
      obtain ⟨v32, e33, hF⟩ := ob_s hF
      refine m_getR X hp e33 kX5 (Nat.le_of_ble_eq_true rfl) q1494 dX5_hooks_75 ?_
      refine lv_iconst (v := 0) hx hb dX5_hooks_78 (by decide) ?_
      obtain ⟨v34, e35, hF⟩ := ob_s hF
      refine m_iaI X hp e35 dX5_hooks_79 ?_
      refine lv_imul hx hb dX5_hooks_80 ?_
      obtain ⟨v37, e36, hF⟩ := ob_s hF
      refine m_callS (As := [.int v30, .int (x3 * v34)]) (rest := [.int (0 : Int32), .ref v26]) X hp (w_X5_plus e36) q1935 q1936 q144 q1937 2 rfl ds_X5_plus ⟨Nat.le_of_ble_eq_true rfl, Nat.le_of_ble_eq_true rfl⟩ hl.1 rfl (Nat.le_of_ble_eq_true rfl) dX5_hooks_81 ⟨Nat.le_refl 0, Nat.le_refl 0⟩ (fun H locs hp => ?_)
      obtain ⟨M38, e39, hF⟩ := ob_s hF
      refine m_iaW X hp e39 dX5_hooks_84 (fun H locs hp => ?_)
      refine lv_aload_n hx hb dX5_hooks_85 rfl (lv_at hl 0 rfl) ?_
      obtain ⟨v40, e41, hF⟩ := ob_s hF
      refine m_getR X hp e41 kX5 (Nat.le_of_ble_eq_true rfl) q1495 dX5_hooks_86 ?_
      refine lv_iconst (v := 1) hx hb dX5_hooks_89 (by decide) ?_
      refine lv_aload_n hx hb dX5_hooks_90 rfl (lv_at hl 0 rfl) ?_
      obtain ⟨v42, e43, hF⟩ := ob_s hF
      refine m_getR X hp e43 kX5 (Nat.le_of_ble_eq_true rfl) q1494 dX5_hooks_91 ?_
      refine lv_iconst (v := 0) hx hb dX5_hooks_94 (by decide) ?_
      obtain ⟨v44, e45, hF⟩ := ob_s hF
      refine m_iaI X hp e45 dX5_hooks_95 ?_
      refine lv_iload_n hx hb dX5_hooks_96 rfl (lv_at hl 2 rfl) ?_
      refine lv_aload_n hx hb dX5_hooks_97 rfl (lv_at hl 0 rfl) ?_
      obtain ⟨v46, e47, hF⟩ := ob_s hF
      refine m_getR X hp e47 kX5 (Nat.le_of_ble_eq_true rfl) q1494 dX5_hooks_98 ?_
      refine lv_iconst (v := 2) hx hb dX5_hooks_101 (by decide) ?_
      obtain ⟨v48, e49, hF⟩ := ob_s hF
      refine m_iaI X hp e49 dX5_hooks_102 ?_
      refine lv_imul hx hb dX5_hooks_103 ?_
      obtain ⟨v51, e50, hF⟩ := ob_s hF
      refine m_callS (As := [.int v44, .int (x3 * v48)]) (rest := [.int (1 : Int32), .ref v40]) X hp (w_X5_plus e50) q1935 q1936 q144 q1937 2 rfl ds_X5_plus ⟨Nat.le_of_ble_eq_true rfl, Nat.le_of_ble_eq_true rfl⟩ hl.1 rfl (Nat.le_of_ble_eq_true rfl) dX5_hooks_104 ⟨Nat.le_refl 0, Nat.le_refl 0⟩ (fun H locs hp => ?_)
      obtain ⟨M52, e53, hF⟩ := ob_s hF
      refine m_iaW X hp e53 dX5_hooks_107 (fun H locs hp => ?_)
      refine lv_aload_n hx hb dX5_hooks_108 rfl (lv_at hl 0 rfl) ?_
      obtain ⟨v54, e55, hF⟩ := ob_s hF
      refine m_getR X hp e55 kX5 (Nat.le_of_ble_eq_true rfl) q1495 dX5_hooks_109 ?_
      refine lv_iconst (v := 2) hx hb dX5_hooks_112 (by decide) ?_
      refine lv_aload_n hx hb dX5_hooks_113 rfl (lv_at hl 0 rfl) ?_
      obtain ⟨v56, e57, hF⟩ := ob_s hF
      refine m_getR X hp e57 kX5 (Nat.le_of_ble_eq_true rfl) q1494 dX5_hooks_114 ?_
      refine lv_iconst (v := 0) hx hb dX5_hooks_117 (by decide) ?_
      obtain ⟨v58, e59, hF⟩ := ob_s hF
      refine m_iaI X hp e59 dX5_hooks_118 ?_
      refine lv_iload_n hx hb dX5_hooks_119 rfl (lv_at hl 2 rfl) ?_
      refine lv_aload_n hx hb dX5_hooks_120 rfl (lv_at hl 0 rfl) ?_
      obtain ⟨v60, e61, hF⟩ := ob_s hF
      refine m_getR X hp e61 kX5 (Nat.le_of_ble_eq_true rfl) q1494 dX5_hooks_121 ?_
      refine lv_iconst (v := 1) hx hb dX5_hooks_124 (by decide) ?_
      obtain ⟨v62, e63, hF⟩ := ob_s hF
      refine m_iaI X hp e63 dX5_hooks_125 ?_
      refine lv_imul hx hb dX5_hooks_126 ?_
      obtain ⟨v65, e64, hF⟩ := ob_s hF
      refine m_callS (As := [.int v58, .int (x3 * v62)]) (rest := [.int (2 : Int32), .ref v54]) X hp (w_X5_plus e64) q1935 q1936 q144 q1937 2 rfl ds_X5_plus ⟨Nat.le_of_ble_eq_true rfl, Nat.le_of_ble_eq_true rfl⟩ hl.1 rfl (Nat.le_of_ble_eq_true rfl) dX5_hooks_127 ⟨Nat.le_refl 0, Nat.le_refl 0⟩ (fun H locs hp => ?_)
      obtain ⟨M66, e67, hF⟩ := ob_s hF
      refine m_iaW X hp e67 dX5_hooks_130 (fun H locs hp => ?_)
      refine lv_aload_n hx hb dX5_hooks_131 rfl (lv_at hl 0 rfl) ?_
      obtain ⟨v68, e69, hF⟩ := ob_s hF
      refine m_getR X hp e69 kX5 (Nat.le_of_ble_eq_true rfl) q1495 dX5_hooks_132 ?_
      refine lv_iconst (v := 3) hx hb dX5_hooks_135 (by decide) ?_
      refine lv_aload_n hx hb dX5_hooks_136 rfl (lv_at hl 0 rfl) ?_
      obtain ⟨v70, e71, hF⟩ := ob_s hF
      refine m_getR X hp e71 kX5 (Nat.le_of_ble_eq_true rfl) q1494 dX5_hooks_137 ?_
      refine lv_iconst (v := 1) hx hb dX5_hooks_140 (by decide) ?_
      obtain ⟨v72, e73, hF⟩ := ob_s hF
      refine m_iaI X hp e73 dX5_hooks_141 ?_
      refine lv_aload_n hx hb dX5_hooks_142 rfl (lv_at hl 0 rfl) ?_
      obtain ⟨v74, e75, hF⟩ := ob_s hF
      refine m_getR X hp e75 kX5 (Nat.le_of_ble_eq_true rfl) q1494 dX5_hooks_143 ?_
      refine lv_iconst (v := 2) hx hb dX5_hooks_146 (by decide) ?_
      obtain ⟨v76, e77, hF⟩ := ob_s hF
      refine m_iaI X hp e77 dX5_hooks_147 ?_
      obtain ⟨v79, e78, hF⟩ := ob_s hF
      refine m_callS (As := [.int v72, .int v76]) (rest := [.int (3 : Int32), .ref v68]) X hp (w_X5_plus e78) q1935 q1936 q144 q1937 2 rfl ds_X5_plus ⟨Nat.le_of_ble_eq_true rfl, Nat.le_of_ble_eq_true rfl⟩ hl.1 rfl (Nat.le_of_ble_eq_true rfl) dX5_hooks_148 ⟨Nat.le_refl 0, Nat.le_refl 0⟩ (fun H locs hp => ?_)
      refine lv_iload_n hx hb dX5_hooks_151 rfl (lv_at hl 2 rfl) ?_
      refine lv_aload_n hx hb dX5_hooks_152 rfl (lv_at hl 0 rfl) ?_
      obtain ⟨v80, e81, hF⟩ := ob_s hF
      refine m_getR X hp e81 kX5 (Nat.le_of_ble_eq_true rfl) q1494 dX5_hooks_153 ?_
      refine lv_iconst (v := 0) hx hb dX5_hooks_156 (by decide) ?_
      obtain ⟨v82, e83, hF⟩ := ob_s hF
      refine m_iaI X hp e83 dX5_hooks_157 ?_
      refine lv_imul hx hb dX5_hooks_158 ?_
      obtain ⟨v85, e84, hF⟩ := ob_s hF
      refine m_callS (As := [.int v79, .int (x3 * v82)]) (rest := [.int (3 : Int32), .ref v68]) X hp (w_X5_plus e84) q1935 q1936 q144 q1937 2 rfl ds_X5_plus ⟨Nat.le_of_ble_eq_true rfl, Nat.le_of_ble_eq_true rfl⟩ hl.1 rfl (Nat.le_of_ble_eq_true rfl) dX5_hooks_159 ⟨Nat.le_refl 0, Nat.le_refl 0⟩ (fun H locs hp => ?_)
      obtain ⟨M86, e87, hF⟩ := ob_s hF
      refine m_iaW X hp e87 dX5_hooks_162 (fun H locs hp => ?_)
      refine lv_aload_n hx hb dX5_hooks_163 rfl (lv_at hl 0 rfl) ?_
      obtain ⟨v88, e89, hF⟩ := ob_s hF
      refine m_getR X hp e89 kX5 (Nat.le_of_ble_eq_true rfl) q1495 dX5_hooks_164 ?_
      refine lv_aload_n hx hb dX5_hooks_167 rfl (lv_at hl 0 rfl) ?_
      obtain ⟨v90, e91, hF⟩ := ob_s hF
      refine m_getR X hp e91 kX5 (Nat.le_of_ble_eq_true rfl) q1494 dX5_hooks_168 ?_
      refine lv_iconst (v := 4) hx hb dX5_hooks_171 (by decide) ?_
      obtain ⟨M94, e92, hF⟩ := ob_s hF
      refine m_callS (As := [.ref v88, .ref v90, .int (4 : Int32)]) (rest := []) X hp (w_X5_copies e92) q1595 q1596 q144 q1597 3 rfl ds_X5_copies ⟨Nat.le_of_ble_eq_true rfl, Nat.le_of_ble_eq_true rfl⟩ hl.1 rfl (Nat.le_of_ble_eq_true rfl) dX5_hooks_172 ⟨Nat.le_refl 0, Nat.le_refl 0⟩ (fun H locs hp => ?_)
      obtain ⟨v95, ev96⟩ : ∃ y : Int32, y = x4 + (1 : Int32) := ⟨_, rfl⟩
      have hF := nm_s hF ev96
      refine lv_iinc (v := v95) (lv' := [(4, .int v95), (0, .ref x0), (1, .int x1), (3, .int x3)]) hx hb dX5_hooks_175 hl (k := 3) rfl (by rw [ev96]; rfl) (by decide) rfl (fun ls hl => ?_)
      refine lv_goto (tgt := 56) hx hb dX5_hooks_178 (by decide) ?_
      exact ih _ _ _ _ _ _ _ _ hp (lv_sub hl [1, 2, 3, 0] rfl) hF
def fb_X5_hooks_23 (S : mSh) : Nat → mMm → Nat → Int32 → Int32 → Int32 → Option (Int32 × mMm)
  | 0, _, _, _, _, _ => none
  | t + 1, M, x0, x1, x2, x3 => (if (4 : Int32) ≤ x3 then nm (((1 : Int32) - x2)) fun v10 => nm ((0 : Int32)) fun v12 => (fb_X5_hooks_56 S FU M x0 x1 v10 v12) else ob (rR S M x0 6 35) fun v14 => (if x3 = 0 then (fb_X5_hooks_42 S (fb_X5_hooks_23 S t) M x0 x1 x2 x3 (1 : Int32) x3 v14) else (fb_X5_hooks_42 S (fb_X5_hooks_23 S t) M x0 x1 x2 x3 (0 : Int32) x3 v14)))
theorem b_X5_hooks_23 {r : Int32} {M' : mMm} (X : mCx D n0 P p m c cX5_hooks 5 s args yX5_hooks.cls meth (some .int)) : ∀ t : Nat, ∀ (M : mMm) (x0 : Nat) (x1 : Int32) (x2 : Int32) (x3 : Int32) (H : Heap) (locs : List Loc) (ls : Array Slot), mHp D n0 S M n s H locs → lv_has ls 5 [(0, .ref x0), (1, .int x1), (2, .int x2), (3, .int x3)] → fb_X5_hooks_23 S t M x0 x1 x2 x3 = some (r, M') → W p l e Rm_X5_hooks s m args below meth c H locs 0 0 (MQ below (mQ D n0 (some (.int r)) S M' n) args s 0 0 (mA n0)) (F0 m 23 ls []) := by
  have hx := X.1.1
  have hb := X.1.2.1
  have hown := X.1.2.2.2.1
  have hts := X.1.2.2.2.2
  intro t
  induction t with
  | zero =>
    intro M x0 x1 x2 x3 H locs ls hp hl hF
    have hF : none = some (r, M') := hF
    cases hF
  | succ t ih =>
    intro M x0 x1 x2 x3 H locs ls hp hl hF
    rw [fb_X5_hooks_23] at hF
    refine lv_iload_n hx hb dX5_hooks_23 rfl (lv_at hl 3 rfl) ?_
    refine lv_iconst (v := 4) hx hb dX5_hooks_24 (by decide) ?_
    refine lv_icmp_ge (tgt := 49) hx hb dX5_hooks_25 (by decide) (fun c9 => ?_) (fun c9 => ?_)
    · have hF := if_p c9 hF
      refine lv_iconst (v := 1) hx hb dX5_hooks_49 (by decide) ?_
      refine lv_iload_n hx hb dX5_hooks_50 rfl (lv_at hl 2 rfl) ?_
      refine lv_isub hx hb dX5_hooks_51 ?_
      refine lv_topi (fun v10 ev11 => ?_)
      have hF := nm_s hF ev11
      refine lv_istore_n (lv' := [(3, .int v10), (0, .ref x0), (1, .int x1), (2, .int x2)]) hx hb dX5_hooks_52 rfl hl (by decide) rfl (fun ls hl => ?_)
      refine lv_iconst (v := 0) hx hb dX5_hooks_53 (by decide) ?_
      refine lv_topi (fun v12 ev13 => ?_)
      have hF := nm_s hF ev13
      refine lv_istore (lv' := [(4, .int v12), (3, .int v10), (0, .ref x0), (1, .int x1), (2, .int x2)]) hx hb dX5_hooks_54 hl (by decide) rfl (fun ls hl => ?_)
      exact b_X5_hooks_56 X _ _ _ _ _ _ _ _ _ hp (lv_sub hl [2, 3, 1, 0] rfl) hF
    · have hF := if_n c9 hF
      refine lv_aload_n hx hb dX5_hooks_28 rfl (lv_at hl 0 rfl) ?_
      obtain ⟨v14, e15, hF⟩ := ob_s hF
      refine m_getR X hp e15 kX5 (Nat.le_of_ble_eq_true rfl) q1494 dX5_hooks_29 ?_
      refine lv_iload_n hx hb dX5_hooks_32 rfl (lv_at hl 3 rfl) ?_
      refine lv_iload_n hx hb dX5_hooks_33 rfl (lv_at hl 3 rfl) ?_
      refine lv_if_ne (tgt := 41) hx hb dX5_hooks_34 (by decide) (fun c16 => ?_) (fun c16 => ?_)
      · have hF := if_n c16 hF
        refine lv_iconst (v := 0) hx hb dX5_hooks_41 (by decide) ?_
        exact b_X5_hooks_42 X _ ih _ _ _ _ _ _ _ _ _ _ _ hp (lv_sub hl [0, 1, 2, 3] rfl) hF
      · have hF := if_p c16 hF
        refine lv_iconst (v := 1) hx hb dX5_hooks_37 (by decide) ?_
        refine lv_goto (tgt := 42) hx hb dX5_hooks_38 (by decide) ?_
        exact b_X5_hooks_42 X _ ih _ _ _ _ _ _ _ _ _ _ _ hp (lv_sub hl [0, 1, 2, 3] rfl) hF
def f_X5_hooks (S : mSh) (M : mMm) (x0 : Nat) (x1 : Int32) (x2 : Int32) : Option (Int32 × mMm) := ob (f_X5_within x1 (0 : Int32) (40 : Int32)) fun v2 => (if v2 = 0 then some ((-1 : Int32), M) else ob (f_X5_within x2 (0 : Int32) (1 : Int32)) fun v5 => (if v5 = 0 then some ((-1 : Int32), M) else nm ((0 : Int32)) fun v7 => (fb_X5_hooks_23 S FU M x0 x1 x2 v7)))
theorem w_X5_hooks {x0 : Nat} {x1 : Int32} {x2 : Int32} {r : Int32} {M' : mMm} (hF : f_X5_hooks S M x0 x1 x2 = some (r, M')) : mCt l D n0 P yX5_hooks cX5_hooks 5 (some .int) 1 23 0 0 [.ref x0, .int x1, .int x2] S M n (some (.int r)) S M' n := by
  refine m_ofW (by decide) (Nat.le_of_ble_eq_true rfl) (fun p e s m below meth c X hnm hp ls hl => ?_)
  have hx := X.1.1
  have hb := X.1.2.1
  have hown := X.1.2.2.2.1
  have hts := X.1.2.2.2.2
  have hl : lv_has ls 5 [(0, .ref x0), (1, .int x1), (2, .int x2)] := hl
  unfold f_X5_hooks at hF
  refine lv_iload_n hx hb dX5_hooks_0 rfl (lv_at hl 1 rfl) ?_
  refine lv_iconst (v := 0) hx hb dX5_hooks_1 (by decide) ?_
  refine lv_bipush (v := 40) hx hb dX5_hooks_2 (by decide) ?_
  obtain ⟨v2, e1, hF⟩ := ob_s hF
  refine m_callS (As := [.int x1, .int (0 : Int32), .int (40 : Int32)]) (rest := []) X hp (w_X5_within e1) q1588 q1589 q144 q1590 3 rfl ds_X5_within ⟨Nat.le_of_ble_eq_true rfl, Nat.le_of_ble_eq_true rfl⟩ hl.1 rfl (Nat.le_of_ble_eq_true rfl) dX5_hooks_4 ⟨Nat.le_refl 0, Nat.le_refl 0⟩ (fun H locs hp => ?_)
  refine lv_if_eq (tgt := 19) hx hb dX5_hooks_7 (by decide) (fun c3 => ?_) (fun c3 => ?_)
  · have hF := if_p c3 hF
    refine lv_iconst (v := -1) hx hb dX5_hooks_19 (by decide) ?_
    cases hF
    exact m_iret X hp dX5_hooks_20
  · have hF := if_n c3 hF
    refine lv_iload_n hx hb dX5_hooks_10 rfl (lv_at hl 2 rfl) ?_
    refine lv_iconst (v := 0) hx hb dX5_hooks_11 (by decide) ?_
    refine lv_iconst (v := 1) hx hb dX5_hooks_12 (by decide) ?_
    obtain ⟨v5, e4, hF⟩ := ob_s hF
    refine m_callS (As := [.int x2, .int (0 : Int32), .int (1 : Int32)]) (rest := []) X hp (w_X5_within e4) q1588 q1589 q144 q1590 3 rfl ds_X5_within ⟨Nat.le_of_ble_eq_true rfl, Nat.le_of_ble_eq_true rfl⟩ hl.1 rfl (Nat.le_of_ble_eq_true rfl) dX5_hooks_13 ⟨Nat.le_refl 0, Nat.le_refl 0⟩ (fun H locs hp => ?_)
    refine lv_if_ne (tgt := 21) hx hb dX5_hooks_16 (by decide) (fun c6 => ?_) (fun c6 => ?_)
    · have hF := if_n c6 hF
      refine lv_iconst (v := 0) hx hb dX5_hooks_21 (by decide) ?_
      refine lv_topi (fun v7 ev8 => ?_)
      have hF := nm_s hF ev8
      refine lv_istore_n (lv' := [(3, .int v7), (0, .ref x0), (1, .int x1), (2, .int x2)]) hx hb dX5_hooks_22 rfl hl (by decide) rfl (fun ls hl => ?_)
      exact b_X5_hooks_23 X _ _ _ _ _ _ _ _ _ hp (lv_sub hl [1, 2, 3, 0] rfl) hF
    · have hF := if_p c6 hF
      refine lv_iconst (v := -1) hx hb dX5_hooks_19 (by decide) ?_
      cases hF
      exact m_iret X hp dX5_hooks_20
end
