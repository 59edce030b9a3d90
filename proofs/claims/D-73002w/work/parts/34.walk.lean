set_option maxRecDepth 100000
section
variable {l : Launch} {D : va_G} {n0 : Nat} {P : mP} {S : mSh} {M : mMm} {n : Nat} {p : Program} {e : Env} {s : State} {m : MethodId} {args : Array Value} {below : List Frame} {meth : Method} {c : Code}
abbrev Rm_X0_seen : Room := { frames := 2, cells := 0, slots := 0, locals := 51 }
def fb_X0_seen_73 (S : mSh) (M : mMm) (k49 : Nat → Int32 → Int32 → Int32 → Option Int32) (x0 : Nat) (x1 : Int32) (x4 : Int32) (y0 : Int32) (y1 : Int32) : Option Int32 := nm ((y1 + y0)) fun v21 => nm (x4 + (1 : Int32)) fun v23 => (k49 x0 x1 v21 v23)
theorem b_X0_seen_73 {r : Int32} (X : mCx D n0 P p m c cX0_seen 5 s args yX0_seen.cls meth (some .int)) (k49 : Nat → Int32 → Int32 → Int32 → Option Int32) (hk49 : ∀ (x0 : Nat) (x1 : Int32) (x3 : Int32) (x4 : Int32) (H : Heap) (locs : List Loc) (ls : Array Slot), mHp D n0 S M n s H locs → lv_has ls 5 [(0, .ref x0), (1, .int x1), (3, .int x3), (4, .int x4)] → k49 x0 x1 x3 x4 = some r → W p l e Rm_X0_seen s m args below meth c H locs 0 0 (MQ below (mQ D n0 (some (.int r)) S M n) args s 0 0 (mA n0)) (F0 m 49 ls [])) : ∀ (x0 : Nat) (x1 : Int32) (x4 : Int32) (y0 : Int32) (y1 : Int32) (H : Heap) (locs : List Loc) (ls : Array Slot), mHp D n0 S M n s H locs → lv_has ls 5 [(0, .ref x0), (1, .int x1), (4, .int x4)] → fb_X0_seen_73 S M k49 x0 x1 x4 y0 y1 = some r → W p l e Rm_X0_seen s m args below meth c H locs 0 0 (MQ below (mQ D n0 (some (.int r)) S M n) args s 0 0 (mA n0)) (F0 m 73 ls [.int y0, .int y1]) := by
  have hx := X.1.1
  have hb := X.1.2.1
  have hown := X.1.2.2.2.1
  have hts := X.1.2.2.2.2
  intro x0 x1 x4 y0 y1 H locs ls hp hl hF
  unfold fb_X0_seen_73 at hF
  refine lv_iadd hx hb dX0_seen_73 ?_
  refine lv_topi (fun v21 ev22 => ?_)
  have hF := nm_s hF ev22
  refine lv_istore_n (lv' := [(3, .int v21), (0, .ref x0), (1, .int x1), (4, .int x4)]) hx hb dX0_seen_74 rfl hl (by decide) rfl (fun ls hl => ?_)
  obtain ⟨v23, ev24⟩ : ∃ y : Int32, y = x4 + (1 : Int32) := ⟨_, rfl⟩
  have hF := nm_s hF ev24
  refine lv_iinc (v := v23) (lv' := [(4, .int v23), (3, .int v21), (0, .ref x0), (1, .int x1)]) hx hb dX0_seen_75 hl (k := 3) rfl (by rw [ev24]; rfl) (by decide) rfl (fun ls hl => ?_)
  refine lv_goto (tgt := 49) hx hb dX0_seen_78 (by decide) ?_
  exact hk49 _ _ _ _ _ _ _ hp (lv_sub hl [2, 3, 1, 0] rfl) hF
def fb_X0_seen_49 (S : mSh) (M : mMm) : Nat → Nat → Int32 → Int32 → Int32 → Option Int32
  | 0, _, _, _, _ => none
  | t + 1, x0, x1, x3, x4 => (if (144 : Int32) ≤ x4 then some x3 else gd ((S x0).1 = 1) (ob (f_X0_isSeen S M x0 x1 x4) fun v19 => (if v19 = 0 then (fb_X0_seen_73 S M (fb_X0_seen_49 S M t) x0 x1 x4 (0 : Int32) x3) else (fb_X0_seen_73 S M (fb_X0_seen_49 S M t) x0 x1 x4 (1 : Int32) x3))))
theorem b_X0_seen_49 {r : Int32} (X : mCx D n0 P p m c cX0_seen 5 s args yX0_seen.cls meth (some .int)) : ∀ t : Nat, ∀ (x0 : Nat) (x1 : Int32) (x3 : Int32) (x4 : Int32) (H : Heap) (locs : List Loc) (ls : Array Slot), mHp D n0 S M n s H locs → lv_has ls 5 [(0, .ref x0), (1, .int x1), (3, .int x3), (4, .int x4)] → fb_X0_seen_49 S M t x0 x1 x3 x4 = some r → W p l e Rm_X0_seen s m args below meth c H locs 0 0 (MQ below (mQ D n0 (some (.int r)) S M n) args s 0 0 (mA n0)) (F0 m 49 ls []) := by
  have hx := X.1.1
  have hb := X.1.2.1
  have hown := X.1.2.2.2.1
  have hts := X.1.2.2.2.2
  intro t
  induction t with
  | zero =>
    intro x0 x1 x3 x4 H locs ls hp hl hF
    have hF : none = some r := hF
    cases hF
  | succ t ih =>
    intro x0 x1 x3 x4 H locs ls hp hl hF
    rw [fb_X0_seen_49] at hF
    refine lv_iload hx hb dX0_seen_49 (lv_at hl 3 rfl) ?_
    refine lv_sipush (v := 144) hx hb dX0_seen_51 (by decide) ?_
    refine lv_icmp_ge (tgt := 81) hx hb dX0_seen_54 (by decide) (fun c16 => ?_) (fun c16 => ?_)
    · have hF := if_p c16 hF
      refine lv_iload_n hx hb dX0_seen_81 rfl (lv_at hl 2 rfl) ?_
      cases hF
      exact m_iret X hp dX0_seen_82
    · have hF := if_n c16 hF
      refine lv_iload_n hx hb dX0_seen_57 rfl (lv_at hl 2 rfl) ?_
      refine lv_aload_n hx hb dX0_seen_58 rfl (lv_at hl 0 rfl) ?_
      refine lv_iload_n hx hb dX0_seen_59 rfl (lv_at hl 1 rfl) ?_
      refine lv_iload hx hb dX0_seen_60 (lv_at hl 3 rfl) ?_
      obtain ⟨g17, hF⟩ := gd_s hF
      obtain ⟨v19, e18, hF⟩ := ob_s hF
      refine m_callV (As := [.int x1, .int x4]) (rest := [.int x3]) X hp (w_X0_isSeen e18) q1263 q1265 qs47 q132 q1266 2 rfl ds_X0_isSeen ⟨Nat.le_of_ble_eq_true rfl, Nat.le_of_ble_eq_true rfl⟩ 1 (T := TX0) (N := 30) rfl (by decide) g17 hl.1 rfl (Nat.le_of_ble_eq_true rfl) dX0_seen_62 ⟨Nat.le_refl 0, Nat.le_refl 0⟩ (fun H locs hp => ?_)
      refine lv_if_eq (tgt := 72) hx hb dX0_seen_65 (by decide) (fun c20 => ?_) (fun c20 => ?_)
      · have hF := if_p c20 hF
        refine lv_iconst (v := 0) hx hb dX0_seen_72 (by decide) ?_
        exact b_X0_seen_73 X _ ih _ _ _ _ _ _ _ _ hp (lv_sub hl [0, 1, 3] rfl) hF
      · have hF := if_n c20 hF
        refine lv_iconst (v := 1) hx hb dX0_seen_68 (by decide) ?_
        refine lv_goto (tgt := 73) hx hb dX0_seen_69 (by decide) ?_
        exact b_X0_seen_73 X _ ih _ _ _ _ _ _ _ _ hp (lv_sub hl [0, 1, 3] rfl) hF
def f_X0_seen (S : mSh) (M : mMm) (x0 : Nat) (x1 : Int32) (x2 : Int32) : Option Int32 := ob (f_X0_isIn x1 (0 : Int32) (143 : Int32)) fun v2 => (if v2 = 0 then some (-1 : Int32) else ob (f_X0_isIn x2 (-1 : Int32) (143 : Int32)) fun v5 => (if v5 = 0 then some (-1 : Int32) else (if x2 = (-1 : Int32) then nm ((0 : Int32)) fun v8 => nm ((0 : Int32)) fun v10 => (fb_X0_seen_49 S M FU x0 x1 v8 v10) else gd ((S x0).1 = 1) (ob (f_X0_isSeen S M x0 x1 x2) fun v14 => (if v14 = 0 then some (0 : Int32) else some (1 : Int32))))))
theorem w_X0_seen {x0 : Nat} {x1 : Int32} {x2 : Int32} {r : Int32} (hF : f_X0_seen S M x0 x1 x2 = some r) : mCt l D n0 P yX0_seen cX0_seen 5 (some .int) 2 51 0 0 [.ref x0, .int x1, .int x2] S M n (some (.int r)) S M n := by
  refine m_ofW (by decide) (Nat.le_of_ble_eq_true rfl) (fun p e s m below meth c X hnm hp ls hl => ?_)
  have hx := X.1.1
  have hb := X.1.2.1
  have hown := X.1.2.2.2.1
  have hts := X.1.2.2.2.2
  have hl : lv_has ls 5 [(0, .ref x0), (1, .int x1), (2, .int x2)] := hl
  unfold f_X0_seen at hF
  refine lv_iload_n hx hb dX0_seen_0 rfl (lv_at hl 1 rfl) ?_
  refine lv_iconst (v := 0) hx hb dX0_seen_1 (by decide) ?_
  refine lv_sipush (v := 143) hx hb dX0_seen_2 (by decide) ?_
  obtain ⟨v2, e1, hF⟩ := ob_s hF
  refine m_callS (As := [.int x1, .int (0 : Int32), .int (143 : Int32)]) (rest := []) X hp (w_X0_isIn e1) q565 q566 q132 q567 3 rfl ds_X0_isIn ⟨Nat.le_of_ble_eq_true rfl, Nat.le_of_ble_eq_true rfl⟩ hl.1 rfl (Nat.le_of_ble_eq_true rfl) dX0_seen_5 ⟨Nat.le_refl 0, Nat.le_refl 0⟩ (fun H locs hp => ?_)
  refine lv_if_eq (tgt := 22) hx hb dX0_seen_8 (by decide) (fun c3 => ?_) (fun c3 => ?_)
  · have hF := if_p c3 hF
    refine lv_iconst (v := -1) hx hb dX0_seen_22 (by decide) ?_
    cases hF
    exact m_iret X hp dX0_seen_23
  · have hF := if_n c3 hF
    refine lv_iload_n hx hb dX0_seen_11 rfl (lv_at hl 2 rfl) ?_
    refine lv_iconst (v := -1) hx hb dX0_seen_12 (by decide) ?_
    refine lv_sipush (v := 143) hx hb dX0_seen_13 (by decide) ?_
    obtain ⟨v5, e4, hF⟩ := ob_s hF
    refine m_callS (As := [.int x2, .int (-1 : Int32), .int (143 : Int32)]) (rest := []) X hp (w_X0_isIn e4) q565 q566 q132 q567 3 rfl ds_X0_isIn ⟨Nat.le_of_ble_eq_true rfl, Nat.le_of_ble_eq_true rfl⟩ hl.1 rfl (Nat.le_of_ble_eq_true rfl) dX0_seen_16 ⟨Nat.le_refl 0, Nat.le_refl 0⟩ (fun H locs hp => ?_)
    refine lv_if_ne (tgt := 24) hx hb dX0_seen_19 (by decide) (fun c6 => ?_) (fun c6 => ?_)
    · have hF := if_n c6 hF
      refine lv_iload_n hx hb dX0_seen_24 rfl (lv_at hl 2 rfl) ?_
      refine lv_iconst (v := -1) hx hb dX0_seen_25 (by decide) ?_
      refine lv_icmp_eq (tgt := 44) hx hb dX0_seen_26 (by decide) (fun c7 => ?_) (fun c7 => ?_)
      · have hF := if_p c7 hF
        refine lv_iconst (v := 0) hx hb dX0_seen_44 (by decide) ?_
        refine lv_topi (fun v8 ev9 => ?_)
        have hF := nm_s hF ev9
        refine lv_istore_n (lv' := [(3, .int v8), (0, .ref x0), (1, .int x1), (2, .int x2)]) hx hb dX0_seen_45 rfl hl (by decide) rfl (fun ls hl => ?_)
        refine lv_iconst (v := 0) hx hb dX0_seen_46 (by decide) ?_
        refine lv_topi (fun v10 ev11 => ?_)
        have hF := nm_s hF ev11
        refine lv_istore (lv' := [(4, .int v10), (3, .int v8), (0, .ref x0), (1, .int x1), (2, .int x2)]) hx hb dX0_seen_47 hl (by decide) rfl (fun ls hl => ?_)
        exact b_X0_seen_49 X _ _ _ _ _ _ _ _ hp (lv_sub hl [2, 3, 1, 0] rfl) hF
      · have hF := if_n c7 hF
        refine lv_aload_n hx hb dX0_seen_29 rfl (lv_at hl 0 rfl) ?_
        refine lv_iload_n hx hb dX0_seen_30 rfl (lv_at hl 1 rfl) ?_
        refine lv_iload_n hx hb dX0_seen_31 rfl (lv_at hl 2 rfl) ?_
        obtain ⟨g12, hF⟩ := gd_s hF
        obtain ⟨v14, e13, hF⟩ := ob_s hF
        refine m_callV (As := [.int x1, .int x2]) (rest := []) X hp (w_X0_isSeen e13) q1263 q1265 qs47 q132 q1266 2 rfl ds_X0_isSeen ⟨Nat.le_of_ble_eq_true rfl, Nat.le_of_ble_eq_true rfl⟩ 1 (T := TX0) (N := 30) rfl (by decide) g12 hl.1 rfl (Nat.le_of_ble_eq_true rfl) dX0_seen_32 ⟨Nat.le_refl 0, Nat.le_refl 0⟩ (fun H locs hp => ?_)
        refine lv_if_eq (tgt := 42) hx hb dX0_seen_35 (by decide) (fun c15 => ?_) (fun c15 => ?_)
        · have hF := if_p c15 hF
          refine lv_iconst (v := 0) hx hb dX0_seen_42 (by decide) ?_
          cases hF
          exact m_iret X hp dX0_seen_43
        · have hF := if_n c15 hF
          refine lv_iconst (v := 1) hx hb dX0_seen_38 (by decide) ?_
          refine lv_goto (tgt := 43) hx hb dX0_seen_39 (by decide) ?_
          cases hF
          exact m_iret X hp dX0_seen_43
    · have hF := if_p c6 hF
      refine lv_iconst (v := -1) hx hb dX0_seen_22 (by decide) ?_
      cases hF
      exact m_iret X hp dX0_seen_23
end
section
variable {l : Launch} {D : va_G} {n0 : Nat} {P : mP} {S : mSh} {M : mMm} {n : Nat} {p : Program} {e : Env} {s : State} {m : MethodId} {args : Array Value} {below : List Frame} {meth : Method} {c : Code}
abbrev Rm_X0_state : Room := { frames := 1, cells := 0, slots := 0, locals := 20 }
def f_X0_state (S : mSh) (M : mMm) (x0 : Nat) (x1 : Int32) : Option (Int32 × mMm) := ob (rR S M x0 1 4) fun v1 => ob (rI S M v1 2 13) fun v3 => ob (rR S M x0 1 4) fun v5 => ob (wF S M v5 2 13 (.int x1)) fun M7 => ob (f_X0_forgets S M7 x0) fun ⟨v10, M11⟩ => some (v3, M11)
theorem w_X0_state {x0 : Nat} {x1 : Int32} {r : Int32} {M' : mMm} (hF : f_X0_state S M x0 x1 = some (r, M')) : mCt l D n0 P yX0_state cX0_state 3 (some .int) 1 20 0 0 [.ref x0, .int x1] S M n (some (.int r)) S M' n := by
  refine m_ofW (by decide) (Nat.le_of_ble_eq_true rfl) (fun p e s m below meth c X hnm hp ls hl => ?_)
  have hx := X.1.1
  have hb := X.1.2.1
  have hown := X.1.2.2.2.1
  have hts := X.1.2.2.2.2
  have hl : lv_has ls 3 [(0, .ref x0), (1, .int x1)] := hl
  unfold f_X0_state at hF
  refine lv_aload_n hx hb dX0_state_0 rfl (lv_at hl 0 rfl) ?_
  obtain ⟨v1, e2, hF⟩ := ob_s hF
  refine m_getR X hp e2 kX0 (Nat.le_of_ble_eq_true rfl) q463 dX0_state_1 ?_
  obtain ⟨v3, e4, hF⟩ := ob_s hF
  refine m_getIN X hp e4 kX1 (Nat.le_of_ble_eq_true rfl) q403 dX0_state_4 ?_
  refine lv_istore_n (lv' := [(2, .int v3), (0, .ref x0), (1, .int x1)]) hx hb dX0_state_7 rfl hl (by decide) rfl (fun ls hl => ?_)
  refine lv_aload_n hx hb dX0_state_8 rfl (lv_at hl 1 rfl) ?_
  obtain ⟨v5, e6, hF⟩ := ob_s hF
  refine m_getR X hp e6 kX0 (Nat.le_of_ble_eq_true rfl) q463 dX0_state_9 ?_
  refine lv_iload_n hx hb dX0_state_12 rfl (lv_at hl 2 rfl) ?_
  obtain ⟨M7, e8, hF⟩ := ob_s hF
  refine m_putWN X hp e8 kX1 (Nat.le_of_ble_eq_true rfl) q403 rfl rfl rfl dX0_state_13 (fun H locs hp => ?_)
  refine lv_aload_n hx hb dX0_state_16 rfl (lv_at hl 1 rfl) ?_
  obtain ⟨⟨v10, M11⟩, e9, hF⟩ := ob_s hF
  refine m_callV (As := []) (rest := []) X hp (w_X0_forgets e9) q981 q983 qs29 q132 q984 0 rfl ds_X0_forgets ⟨Nat.le_of_ble_eq_true rfl, Nat.le_of_ble_eq_true rfl⟩ 1 (T := TX0) (N := 30) rfl (by decide) (rR_s e6).1 hl.1 rfl (Nat.le_of_ble_eq_true rfl) dX0_state_17 ⟨Nat.le_refl 0, Nat.le_refl 0⟩ (fun H locs hp => ?_)
  refine lv_pop hx hb dX0_state_20 rfl ?_
  refine lv_iload_n hx hb dX0_state_21 rfl (lv_at hl 0 rfl) ?_
  cases hF
  exact m_iret X hp dX0_state_22
end
section
variable {l : Launch} {D : va_G} {n0 : Nat} {P : mP} {S : mSh} {M : mMm} {n : Nat} {p : Program} {e : Env} {s : State} {m : MethodId} {args : Array Value} {below : List Frame} {meth : Method} {c : Code}
abbrev Rm_X0_turn : Room := { frames := 6, cells := 0, slots := 0, locals := 126 }
def fb_X0_turn_38 (S : mSh) (M : mMm) (y0 : Int32) (y1 : Int32) (y2 : Nat) : Option (Int32 × mMm) := gd ((S y2).1 = 2) (ob (f_X1_turns S M y2 y1 y0) fun M17 => some ((1 : Int32), M17))
theorem b_X0_turn_38 {r : Int32} {M' : mMm} (X : mCx D n0 P p m c cX0_turn 3 s args yX0_turn.cls meth (some .boolean)) : ∀ (M : mMm) (y0 : Int32) (y1 : Int32) (y2 : Nat) (H : Heap) (locs : List Loc) (ls : Array Slot), mHp D n0 S M n s H locs → lv_has ls 3 [] → fb_X0_turn_38 S M y0 y1 y2 = some (r, M') → W p l e Rm_X0_turn s m args below meth c H locs 0 0 (MQ below (mQ D n0 (some (.int r)) S M' n) args s 0 0 (mA n0)) (F0 m 38 ls [.int y0, .int y1, .ref y2]) := by
  have hx := X.1.1
  have hb := X.1.2.1
  have hown := X.1.2.2.2.1
  have hts := X.1.2.2.2.2
  intro M y0 y1 y2 H locs ls hp hl hF
  unfold fb_X0_turn_38 at hF
  obtain ⟨g14, hF⟩ := gd_s hF
  obtain ⟨M17, e15, hF⟩ := ob_s hF
  refine m_callV (As := [.int y1, .int y0]) (rest := []) X hp (w_X1_turns e15) q1056 q1057 q1058 q133 q1059 2 rfl ds_X1_turns ⟨Nat.le_of_ble_eq_true rfl, Nat.le_of_ble_eq_true rfl⟩ 2 (T := TX1) (N := 19) rfl (by decide) g14 hl.1 rfl (Nat.le_of_ble_eq_true rfl) dX0_turn_38 ⟨Nat.le_refl 0, Nat.le_refl 0⟩ (fun H locs hp => ?_)
  refine lv_iconst (v := 1) hx hb dX0_turn_41 (by decide) ?_
  cases hF
  exact m_zret X hp rfl dX0_turn_42
def f_X0_turn (S : mSh) (M : mMm) (x0 : Nat) (x1 : Int32) (x2 : Int32) : Option (Int32 × mMm) := gd ((S x0).1 = 1) (ob (f_X0_isInside S M x0 x1) fun v3 => (if v3 = 0 then some ((0 : Int32), M) else ob (f_X0_isIn x2 (0 : Int32) (2 : Int32)) fun v6 => (if v6 = 0 then some ((0 : Int32), M) else ob (f_X0_remembers S M x0) fun ⟨v9, M10⟩ => ob (rR S M10 x0 1 4) fun v11 => (if x2 = 0 then (fb_X0_turn_38 S M10  (3 : Int32) x1 v11) else (fb_X0_turn_38 S M10  x2 x1 v11)))))
theorem w_X0_turn {x0 : Nat} {x1 : Int32} {x2 : Int32} {r : Int32} {M' : mMm} (hF : f_X0_turn S M x0 x1 x2 = some (r, M')) : mCt l D n0 P yX0_turn cX0_turn 3 (some .boolean) 6 126 0 0 [.ref x0, .int x1, .int x2] S M n (some (.int r)) S M' n := by
  refine m_ofW (by decide) (Nat.le_of_ble_eq_true rfl) (fun p e s m below meth c X hnm hp ls hl => ?_)
  have hx := X.1.1
  have hb := X.1.2.1
  have hown := X.1.2.2.2.1
  have hts := X.1.2.2.2.2
  have hl : lv_has ls 3 [(0, .ref x0), (1, .int x1), (2, .int x2)] := hl
  unfold f_X0_turn at hF
  refine lv_aload_n hx hb dX0_turn_0 rfl (lv_at hl 0 rfl) ?_
  refine lv_iload_n hx hb dX0_turn_1 rfl (lv_at hl 1 rfl) ?_
  obtain ⟨g1, hF⟩ := gd_s hF
  obtain ⟨v3, e2, hF⟩ := ob_s hF
  refine m_callV (As := [.int x1]) (rest := []) X hp (w_X0_isInside e2) q1052 q1054 qs33 q132 q1055 1 rfl ds_X0_isInside ⟨Nat.le_of_ble_eq_true rfl, Nat.le_of_ble_eq_true rfl⟩ 1 (T := TX0) (N := 30) rfl (by decide) g1 hl.1 rfl (Nat.le_of_ble_eq_true rfl) dX0_turn_2 ⟨Nat.le_refl 0, Nat.le_refl 0⟩ (fun H locs hp => ?_)
  refine lv_if_eq (tgt := 17) hx hb dX0_turn_5 (by decide) (fun c4 => ?_) (fun c4 => ?_)
  · have hF := if_p c4 hF
    refine lv_iconst (v := 0) hx hb dX0_turn_17 (by decide) ?_
    cases hF
    exact m_zret X hp rfl dX0_turn_18
  · have hF := if_n c4 hF
    refine lv_iload_n hx hb dX0_turn_8 rfl (lv_at hl 2 rfl) ?_
    refine lv_iconst (v := 0) hx hb dX0_turn_9 (by decide) ?_
    refine lv_iconst (v := 2) hx hb dX0_turn_10 (by decide) ?_
    obtain ⟨v6, e5, hF⟩ := ob_s hF
    refine m_callS (As := [.int x2, .int (0 : Int32), .int (2 : Int32)]) (rest := []) X hp (w_X0_isIn e5) q565 q566 q132 q567 3 rfl ds_X0_isIn ⟨Nat.le_of_ble_eq_true rfl, Nat.le_of_ble_eq_true rfl⟩ hl.1 rfl (Nat.le_of_ble_eq_true rfl) dX0_turn_11 ⟨Nat.le_refl 0, Nat.le_refl 0⟩ (fun H locs hp => ?_)
    refine lv_if_ne (tgt := 19) hx hb dX0_turn_14 (by decide) (fun c7 => ?_) (fun c7 => ?_)
    · have hF := if_n c7 hF
      refine lv_aload_n hx hb dX0_turn_19 rfl (lv_at hl 0 rfl) ?_
      obtain ⟨⟨v9, M10⟩, e8, hF⟩ := ob_s hF
      refine m_callV (As := []) (rest := []) X hp (w_X0_remembers e8) q1032 q1034 qs31 q132 q1035 0 rfl ds_X0_remembers ⟨Nat.le_of_ble_eq_true rfl, Nat.le_of_ble_eq_true rfl⟩ 1 (T := TX0) (N := 30) rfl (by decide) g1 hl.1 rfl (Nat.le_of_ble_eq_true rfl) dX0_turn_20 ⟨Nat.le_refl 0, Nat.le_refl 0⟩ (fun H locs hp => ?_)
      refine lv_pop hx hb dX0_turn_23 rfl ?_
      refine lv_aload_n hx hb dX0_turn_24 rfl (lv_at hl 0 rfl) ?_
      obtain ⟨v11, e12, hF⟩ := ob_s hF
      refine m_getR X hp e12 kX0 (Nat.le_of_ble_eq_true rfl) q463 dX0_turn_25 ?_
      refine lv_iload_n hx hb dX0_turn_28 rfl (lv_at hl 1 rfl) ?_
      refine lv_iload_n hx hb dX0_turn_29 rfl (lv_at hl 2 rfl) ?_
      refine lv_if_ne (tgt := 37) hx hb dX0_turn_30 (by decide) (fun c13 => ?_) (fun c13 => ?_)
      · have hF := if_n c13 hF
        refine lv_iload_n hx hb dX0_turn_37 rfl (lv_at hl 2 rfl) ?_
        exact b_X0_turn_38 X _  _ _ _ _ _ _ hp (lv_sub hl [] rfl) hF
      · have hF := if_p c13 hF
        refine lv_iconst (v := 3) hx hb dX0_turn_33 (by decide) ?_
        refine lv_goto (tgt := 38) hx hb dX0_turn_34 (by decide) ?_
        exact b_X0_turn_38 X _  _ _ _ _ _ _ hp (lv_sub hl [] rfl) hF
    · have hF := if_p c7 hF
      refine lv_iconst (v := 0) hx hb dX0_turn_17 (by decide) ?_
      cases hF
      exact m_zret X hp rfl dX0_turn_18
end
section
variable {l : Launch} {D : va_G} {n0 : Nat} {P : mP} {S : mSh} {M : mMm} {n : Nat} {p : Program} {e : Env} {s : State} {m : MethodId} {args : Array Value} {below : List Frame} {meth : Method} {c : Code}
abbrev Rm_X0_undo : Room := { frames := 5, cells := 0, slots := 0, locals := 104 }
def f_X0_undo (S : mSh) (M : mMm) (x0 : Nat) : Option (Int32 × mMm) := ob (rI S M x0 1 8) fun v1 => (if v1 = 0 then some ((0 : Int32), M) else ob (rI S M x0 1 8) fun v4 => ob (wF S M x0 1 8 (.int (v4 - (1 : Int32)))) fun M6 => ob (rR S M6 x0 1 4) fun v8 => ob (rR S M6 x0 1 7) fun v10 => ob (rI S M6 x0 1 8) fun v12 => ob (aR S M6 v10 106 v12) fun v14 => gd ((S v8).1 = 2) (ob (f_X1_moves S M6 v8 v14) fun M19 => some ((1 : Int32), M19)))
theorem w_X0_undo {x0 : Nat} {r : Int32} {M' : mMm} (hF : f_X0_undo S M x0 = some (r, M')) : mCt l D n0 P yX0_undo cX0_undo 1 (some .boolean) 5 104 0 0 [.ref x0] S M n (some (.int r)) S M' n := by
  refine m_ofW (by decide) (Nat.le_of_ble_eq_true rfl) (fun p e s m below meth c X hnm hp ls hl => ?_)
  have hx := X.1.1
  have hb := X.1.2.1
  have hown := X.1.2.2.2.1
  have hts := X.1.2.2.2.2
  have hl : lv_has ls 1 [(0, .ref x0)] := hl
  unfold f_X0_undo at hF
  refine lv_aload_n hx hb dX0_undo_0 rfl (lv_at hl 0 rfl) ?_
  obtain ⟨v1, e2, hF⟩ := ob_s hF
  refine m_getI X hp e2 kX0 (Nat.le_of_ble_eq_true rfl) q468 dX0_undo_1 ?_
  refine lv_if_ne (tgt := 9) hx hb dX0_undo_4 (by decide) (fun c3 => ?_) (fun c3 => ?_)
  · have hF := if_n c3 hF
    refine lv_aload_n hx hb dX0_undo_9 rfl (lv_at hl 0 rfl) ?_
    refine lv_dup hx hb dX0_undo_10 rfl ?_
    obtain ⟨v4, e5, hF⟩ := ob_s hF
    refine m_getI X hp e5 kX0 (Nat.le_of_ble_eq_true rfl) q468 dX0_undo_11 ?_
    refine lv_iconst (v := 1) hx hb dX0_undo_14 (by decide) ?_
    refine lv_isub hx hb dX0_undo_15 ?_
    obtain ⟨M6, e7, hF⟩ := ob_s hF
    refine m_putW X hp e7 kX0 (Nat.le_of_ble_eq_true rfl) q468 rfl rfl rfl dX0_undo_16 (fun H locs hp => ?_)
    refine lv_aload_n hx hb dX0_undo_19 rfl (lv_at hl 0 rfl) ?_
    obtain ⟨v8, e9, hF⟩ := ob_s hF
    refine m_getR X hp e9 kX0 (Nat.le_of_ble_eq_true rfl) q463 dX0_undo_20 ?_
    refine lv_aload_n hx hb dX0_undo_23 rfl (lv_at hl 0 rfl) ?_
    obtain ⟨v10, e11, hF⟩ := ob_s hF
    refine m_getR X hp e11 kX0 (Nat.le_of_ble_eq_true rfl) q467 dX0_undo_24 ?_
    refine lv_aload_n hx hb dX0_undo_27 rfl (lv_at hl 0 rfl) ?_
    obtain ⟨v12, e13, hF⟩ := ob_s hF
    refine m_getI X hp e13 kX0 (Nat.le_of_ble_eq_true rfl) q468 dX0_undo_28 ?_
    obtain ⟨v14, e15, hF⟩ := ob_s hF
    refine m_aaR 106 X hp e15 rfl (by decide) rfl dX0_undo_31 ?_
    obtain ⟨g16, hF⟩ := gd_s hF
    obtain ⟨M19, e17, hF⟩ := ob_s hF
    refine m_callV (As := [.ref v14]) (rest := []) X hp (w_X1_moves e17) q993 q994 q995 q133 q996 1 rfl ds_X1_moves ⟨Nat.le_of_ble_eq_true rfl, Nat.le_of_ble_eq_true rfl⟩ 2 (T := TX1) (N := 19) rfl (by decide) g16 hl.1 rfl (Nat.le_of_ble_eq_true rfl) dX0_undo_32 ⟨Nat.le_refl 0, Nat.le_refl 0⟩ (fun H locs hp => ?_)
    refine lv_iconst (v := 1) hx hb dX0_undo_35 (by decide) ?_
    cases hF
    exact m_zret X hp rfl dX0_undo_36
  · have hF := if_p c3 hF
    refine lv_iconst (v := 0) hx hb dX0_undo_7 (by decide) ?_
    cases hF
    exact m_zret X hp rfl dX0_undo_8
end
section
variable {l : Launch} {D : va_G} {n0 : Nat} {P : mP} {S : mSh} {M : mMm} {n : Nat} {p : Program} {e : Env} {s : State} {m : MethodId} {args : Array Value} {below : List Frame} {meth : Method} {c : Code}
abbrev Rm_X0_walker : Room := { frames := 3, cells := 0, slots := 0, locals := 61 }
def f_X0_walker (S : mSh) (M : mMm) (x0 : Nat) (x1 : Int32) : Option (Int32 × mMm) := ob (f_X0_isIn x1 (0 : Int32) (9 : Int32)) fun v2 => (if v2 = 0 then some ((-1 : Int32), M) else ob (rR S M x0 1 4) fun v4 => ob (rI S M v4 2 10) fun v6 => (if v6 = (16 : Int32) then some ((-1 : Int32), M) else ob (rR S M x0 1 4) fun v9 => ob (rR S M v9 2 1) fun v11 => ob (rR S M x0 1 4) fun v13 => ob (rI S M v13 2 10) fun v15 => ob (aR S M v11 104 v15) fun v17 => gd ((S v17).1 = 5) (ob (f_X4_begins_2 S M v17 x1) fun M22 => ob (rR S M22 x0 1 4) fun v23 => ob (rI S M22 v23 2 10) fun v25 => ob (wF S M22 v23 2 10 (.int (v25 + (1 : Int32)))) fun M27 => ob (f_X0_forgets S M27 x0) fun ⟨v30, M31⟩ => ob (rR S M31 x0 1 4) fun v32 => ob (rI S M31 v32 2 10) fun v34 => some ((v34 - (1 : Int32)), M31))))
theorem w_X0_walker {x0 : Nat} {x1 : Int32} {r : Int32} {M' : mMm} (hF : f_X0_walker S M x0 x1 = some (r, M')) : mCt l D n0 P yX0_walker cX0_walker 2 (some .int) 3 61 0 0 [.ref x0, .int x1] S M n (some (.int r)) S M' n := by
  refine m_ofW (by decide) (Nat.le_of_ble_eq_true rfl) (fun p e s m below meth c X hnm hp ls hl => ?_)
  have hx := X.1.1
  have hb := X.1.2.1
  have hown := X.1.2.2.2.1
  have hts := X.1.2.2.2.2
  have hl : lv_has ls 2 [(0, .ref x0), (1, .int x1)] := hl
  unfold f_X0_walker at hF
  refine lv_iload_n hx hb dX0_walker_0 rfl (lv_at hl 1 rfl) ?_
  refine lv_iconst (v := 0) hx hb dX0_walker_1 (by decide) ?_
  refine lv_bipush (v := 9) hx hb dX0_walker_2 (by decide) ?_
  obtain ⟨v2, e1, hF⟩ := ob_s hF
  refine m_callS (As := [.int x1, .int (0 : Int32), .int (9 : Int32)]) (rest := []) X hp (w_X0_isIn e1) q565 q566 q132 q567 3 rfl ds_X0_isIn ⟨Nat.le_of_ble_eq_true rfl, Nat.le_of_ble_eq_true rfl⟩ hl.1 rfl (Nat.le_of_ble_eq_true rfl) dX0_walker_4 ⟨Nat.le_refl 0, Nat.le_refl 0⟩ (fun H locs hp => ?_)
  refine lv_if_eq (tgt := 22) hx hb dX0_walker_7 (by decide) (fun c3 => ?_) (fun c3 => ?_)
  · have hF := if_p c3 hF
    refine lv_iconst (v := -1) hx hb dX0_walker_22 (by decide) ?_
    cases hF
    exact m_iret X hp dX0_walker_23
  · have hF := if_n c3 hF
    refine lv_aload_n hx hb dX0_walker_10 rfl (lv_at hl 0 rfl) ?_
    obtain ⟨v4, e5, hF⟩ := ob_s hF
    refine m_getR X hp e5 kX0 (Nat.le_of_ble_eq_true rfl) q463 dX0_walker_11 ?_
    obtain ⟨v6, e7, hF⟩ := ob_s hF
    refine m_getIN X hp e7 kX1 (Nat.le_of_ble_eq_true rfl) q396 dX0_walker_14 ?_
    refine lv_bipush (v := 16) hx hb dX0_walker_17 (by decide) ?_
    refine lv_icmp_ne (tgt := 24) hx hb dX0_walker_19 (by decide) (fun c8 => ?_) (fun c8 => ?_)
    · have hF := if_n c8 hF
      refine lv_aload_n hx hb dX0_walker_24 rfl (lv_at hl 0 rfl) ?_
      obtain ⟨v9, e10, hF⟩ := ob_s hF
      refine m_getR X hp e10 kX0 (Nat.le_of_ble_eq_true rfl) q463 dX0_walker_25 ?_
      obtain ⟨v11, e12, hF⟩ := ob_s hF
      refine m_getRN X hp e12 kX1 (Nat.le_of_ble_eq_true rfl) q378 dX0_walker_28 ?_
      refine lv_aload_n hx hb dX0_walker_31 rfl (lv_at hl 0 rfl) ?_
      obtain ⟨v13, e14, hF⟩ := ob_s hF
      refine m_getR X hp e14 kX0 (Nat.le_of_ble_eq_true rfl) q463 dX0_walker_32 ?_
      obtain ⟨v15, e16, hF⟩ := ob_s hF
      refine m_getIN X hp e16 kX1 (Nat.le_of_ble_eq_true rfl) q396 dX0_walker_35 ?_
      obtain ⟨v17, e18, hF⟩ := ob_s hF
      refine m_aaR 104 X hp e18 rfl (by decide) rfl dX0_walker_38 ?_
      refine lv_iload_n hx hb dX0_walker_39 rfl (lv_at hl 1 rfl) ?_
      obtain ⟨g19, hF⟩ := gd_s hF
      obtain ⟨M22, e20, hF⟩ := ob_s hF
      refine m_callV (As := [.int x1]) (rest := []) X hp (w_X4_begins_2 e20) q1014 q1002 q1003 q139 q1004 1 rfl ds_X4_begins_2 ⟨Nat.le_of_ble_eq_true rfl, Nat.le_of_ble_eq_true rfl⟩ 5 (T := TX4) (N := 11) rfl (by decide) g19 hl.1 rfl (Nat.le_of_ble_eq_true rfl) dX0_walker_40 ⟨Nat.le_refl 0, Nat.le_refl 0⟩ (fun H locs hp => ?_)
      refine lv_aload_n hx hb dX0_walker_43 rfl (lv_at hl 0 rfl) ?_
      obtain ⟨v23, e24, hF⟩ := ob_s hF
      refine m_getR X hp e24 kX0 (Nat.le_of_ble_eq_true rfl) q463 dX0_walker_44 ?_
      refine lv_dup hx hb dX0_walker_47 rfl ?_
      obtain ⟨v25, e26, hF⟩ := ob_s hF
      refine m_getIN X hp e26 kX1 (Nat.le_of_ble_eq_true rfl) q396 dX0_walker_48 ?_
      refine lv_iconst (v := 1) hx hb dX0_walker_51 (by decide) ?_
      refine lv_iadd hx hb dX0_walker_52 ?_
      obtain ⟨M27, e28, hF⟩ := ob_s hF
      refine m_putWN X hp e28 kX1 (Nat.le_of_ble_eq_true rfl) q396 rfl rfl rfl dX0_walker_53 (fun H locs hp => ?_)
      refine lv_aload_n hx hb dX0_walker_56 rfl (lv_at hl 0 rfl) ?_
      obtain ⟨⟨v30, M31⟩, e29, hF⟩ := ob_s hF
      refine m_callV (As := []) (rest := []) X hp (w_X0_forgets e29) q981 q983 qs29 q132 q984 0 rfl ds_X0_forgets ⟨Nat.le_of_ble_eq_true rfl, Nat.le_of_ble_eq_true rfl⟩ 1 (T := TX0) (N := 30) rfl (by decide) (rR_s e24).1 hl.1 rfl (Nat.le_of_ble_eq_true rfl) dX0_walker_57 ⟨Nat.le_refl 0, Nat.le_refl 0⟩ (fun H locs hp => ?_)
      refine lv_pop hx hb dX0_walker_60 rfl ?_
      refine lv_aload_n hx hb dX0_walker_61 rfl (lv_at hl 0 rfl) ?_
      obtain ⟨v32, e33, hF⟩ := ob_s hF
      refine m_getR X hp e33 kX0 (Nat.le_of_ble_eq_true rfl) q463 dX0_walker_62 ?_
      obtain ⟨v34, e35, hF⟩ := ob_s hF
      refine m_getIN X hp e35 kX1 (Nat.le_of_ble_eq_true rfl) q396 dX0_walker_65 ?_
      refine lv_iconst (v := 1) hx hb dX0_walker_68 (by decide) ?_
      refine lv_isub hx hb dX0_walker_69 ?_
      cases hF
      exact m_iret X hp dX0_walker_70
    · have hF := if_p c8 hF
      refine lv_iconst (v := -1) hx hb dX0_walker_22 (by decide) ?_
      cases hF
      exact m_iret X hp dX0_walker_23
end
section
variable {l : Launch} {D : va_G} {n0 : Nat} {P : mP} {S : mSh} {M : mMm} {n : Nat} {p : Program} {e : Env} {s : State} {m : MethodId} {args : Array Value} {below : List Frame} {meth : Method} {c : Code}
abbrev Rm_X0_with : Room := { frames := 4, cells := 0, slots := 0, locals := 92 }
def fb_X0_with_113 (S : mSh) (k104 : mMm → Nat → Int32 → Int32 → Int32 → Int32 → Option (Int32 × mMm)) : Nat → mMm → Nat → Int32 → Int32 → Int32 → Int32 → Int32 → Option (Int32 × mMm)
  | 0, _, _, _, _, _, _, _ => none
  | t + 1, M, x0, x3, x4, x5, x6, x7 => (if (4 : Int32) ≤ x7 then nm (x6 + (1 : Int32)) fun v40 => (k104 M x0 x3 x4 x5 v40) else ob (rR S M x0 1 13) fun v42 => ob (aR S M v42 109 x6) fun v44 => ob (aR S M v44 108 (x4 - x4 / (10 : Int32) * (10 : Int32))) fun v46 => ob (aI S M v46 100 (((4 : Int32) * x3) + x7)) fun v48 => nm (((x5 + v48) - (x5 + v48) / (1000000007 : Int32) * (1000000007 : Int32))) fun v50 => nm (x7 + (1 : Int32)) fun v52 => (fb_X0_with_113 S k104 t M x0 x3 x4 v50 x6 v52))
theorem b_X0_with_113 {r : Int32} {M' : mMm} (X : mCx D n0 P p m c cX0_with 8 s args yX0_with.cls meth (some .int)) (k104 : mMm → Nat → Int32 → Int32 → Int32 → Int32 → Option (Int32 × mMm)) (hk104 : ∀ (M : mMm) (x0 : Nat) (x3 : Int32) (x4 : Int32) (x5 : Int32) (x6 : Int32) (H : Heap) (locs : List Loc) (ls : Array Slot), mHp D n0 S M n s H locs → lv_has ls 8 [(0, .ref x0), (3, .int x3), (4, .int x4), (5, .int x5), (6, .int x6)] → k104 M x0 x3 x4 x5 x6 = some (r, M') → W p l e Rm_X0_with s m args below meth c H locs 0 0 (MQ below (mQ D n0 (some (.int r)) S M' n) args s 0 0 (mA n0)) (F0 m 104 ls [])) : ∀ t : Nat, ∀ (M : mMm) (x0 : Nat) (x3 : Int32) (x4 : Int32) (x5 : Int32) (x6 : Int32) (x7 : Int32) (H : Heap) (locs : List Loc) (ls : Array Slot), mHp D n0 S M n s H locs → lv_has ls 8 [(0, .ref x0), (3, .int x3), (4, .int x4), (5, .int x5), (6, .int x6), (7, .int x7)] → fb_X0_with_113 S k104 t M x0 x3 x4 x5 x6 x7 = some (r, M') → W p l e Rm_X0_with s m args below meth c H locs 0 0 (MQ below (mQ D n0 (some (.int r)) S M' n) args s 0 0 (mA n0)) (F0 m 113 ls []) := by
  have hx := X.1.1
  have hb := X.1.2.1
  have hown := X.1.2.2.2.1
  have hts := X.1.2.2.2.2
  intro t
  induction t with
  | zero =>
    intro M x0 x3 x4 x5 x6 x7 H locs ls hp hl hF
    have hF : none = some (r, M') := hF
    cases hF
  | succ t ih =>
    intro M x0 x3 x4 x5 x6 x7 H locs ls hp hl hF
    rw [fb_X0_with_113] at hF
    refine lv_iload hx hb dX0_with_113 (lv_at hl 5 rfl) ?_
    refine lv_iconst (v := 4) hx hb dX0_with_115 (by decide) ?_
    refine lv_icmp_ge (tgt := 154) hx hb dX0_with_116 (by decide) (fun c39 => ?_) (fun c39 => ?_)
    · have hF := if_p c39 hF
      obtain ⟨v40, ev41⟩ : ∃ y : Int32, y = x6 + (1 : Int32) := ⟨_, rfl⟩
      have hF := nm_s hF ev41
      refine lv_iinc (v := v40) (lv' := [(6, .int v40), (0, .ref x0), (3, .int x3), (4, .int x4), (5, .int x5), (7, .int x7)]) hx hb dX0_with_154 hl (k := 4) rfl (by rw [ev41]; rfl) (by decide) rfl (fun ls hl => ?_)
      refine lv_goto (tgt := 104) hx hb dX0_with_157 (by decide) ?_
      exact hk104 _ _ _ _ _ _ _ _ _ hp (lv_sub hl [1, 2, 3, 4, 0] rfl) hF
    · have hF := if_n c39 hF
      refine lv_iload hx hb dX0_with_119 (lv_at hl 3 rfl) ?_
      refine lv_aload_n hx hb dX0_with_121 rfl (lv_at hl 0 rfl) ?_
      obtain ⟨v42, e43, hF⟩ := ob_s hF
      refine m_getR X hp e43 kX0 (Nat.le_of_ble_eq_true rfl) q473 dX0_with_122 ?_
      refine lv_iload hx hb dX0_with_125 (lv_at hl 4 rfl) ?_
      obtain ⟨v44, e45, hF⟩ := ob_s hF
      refine m_aaR 109 X hp e45 rfl (by decide) rfl dX0_with_127 ?_
      refine lv_iload hx hb dX0_with_128 (lv_at hl 2 rfl) ?_
      refine lv_bipush (v := 10) hx hb dX0_with_130 (by decide) ?_
      refine lv_irem hx hb dX0_with_132 (by decide) ?_
      obtain ⟨v46, e47, hF⟩ := ob_s hF
      refine m_aaR 108 X hp e47 rfl (by decide) rfl dX0_with_133 ?_
      refine lv_iconst (v := 4) hx hb dX0_with_134 (by decide) ?_
      refine lv_iload_n hx hb dX0_with_135 rfl (lv_at hl 1 rfl) ?_
      refine lv_imul hx hb dX0_with_136 ?_
      refine lv_iload hx hb dX0_with_137 (lv_at hl 5 rfl) ?_
      refine lv_iadd hx hb dX0_with_139 ?_
      obtain ⟨v48, e49, hF⟩ := ob_s hF
      refine m_iaI X hp e49 dX0_with_140 ?_
      refine lv_iadd hx hb dX0_with_141 ?_
      refine lv_ldcw hx hb hown (hts _ q1258) dX0_with_142 ?_
      refine lv_irem hx hb dX0_with_145 (by decide) ?_
      refine lv_topi (fun v50 ev51 => ?_)
      have hF := nm_s hF ev51
      refine lv_istore (lv' := [(5, .int v50), (0, .ref x0), (3, .int x3), (4, .int x4), (6, .int x6), (7, .int x7)]) hx hb dX0_with_146 hl (by decide) rfl (fun ls hl => ?_)
      obtain ⟨v52, ev53⟩ : ∃ y : Int32, y = x7 + (1 : Int32) := ⟨_, rfl⟩
      have hF := nm_s hF ev53
      refine lv_iinc (v := v52) (lv' := [(7, .int v52), (5, .int v50), (0, .ref x0), (3, .int x3), (4, .int x4), (6, .int x6)]) hx hb dX0_with_148 hl (k := 5) rfl (by rw [ev53]; rfl) (by decide) rfl (fun ls hl => ?_)
      refine lv_goto (tgt := 113) hx hb dX0_with_151 (by decide) ?_
      exact ih _ _ _ _ _ _ _ _ _ _ hp (lv_sub hl [2, 3, 4, 1, 5, 0] rfl) hF
def fb_X0_with_104 (S : mSh) : Nat → mMm → Nat → Int32 → Int32 → Int32 → Int32 → Option (Int32 × mMm)
  | 0, _, _, _, _, _, _ => none
  | t + 1, M, x0, x3, x4, x5, x6 => (if (3 : Int32) ≤ x6 then some (x5, M) else nm ((0 : Int32)) fun v37 => (fb_X0_with_113 S (fb_X0_with_104 S t) FU M x0 x3 x4 x5 x6 v37))
theorem b_X0_with_104 {r : Int32} {M' : mMm} (X : mCx D n0 P p m c cX0_with 8 s args yX0_with.cls meth (some .int)) : ∀ t : Nat, ∀ (M : mMm) (x0 : Nat) (x3 : Int32) (x4 : Int32) (x5 : Int32) (x6 : Int32) (H : Heap) (locs : List Loc) (ls : Array Slot), mHp D n0 S M n s H locs → lv_has ls 8 [(0, .ref x0), (3, .int x3), (4, .int x4), (5, .int x5), (6, .int x6)] → fb_X0_with_104 S t M x0 x3 x4 x5 x6 = some (r, M') → W p l e Rm_X0_with s m args below meth c H locs 0 0 (MQ below (mQ D n0 (some (.int r)) S M' n) args s 0 0 (mA n0)) (F0 m 104 ls []) := by
  have hx := X.1.1
  have hb := X.1.2.1
  have hown := X.1.2.2.2.1
  have hts := X.1.2.2.2.2
  intro t
  induction t with
  | zero =>
    intro M x0 x3 x4 x5 x6 H locs ls hp hl hF
    have hF : none = some (r, M') := hF
    cases hF
  | succ t ih =>
    intro M x0 x3 x4 x5 x6 H locs ls hp hl hF
    rw [fb_X0_with_104] at hF
    refine lv_iload hx hb dX0_with_104 (lv_at hl 4 rfl) ?_
    refine lv_iconst (v := 3) hx hb dX0_with_106 (by decide) ?_
    refine lv_icmp_ge (tgt := 160) hx hb dX0_with_107 (by decide) (fun c36 => ?_) (fun c36 => ?_)
    · have hF := if_p c36 hF
      refine lv_iload hx hb dX0_with_160 (lv_at hl 3 rfl) ?_
      cases hF
      exact m_iret X hp dX0_with_162
    · have hF := if_n c36 hF
      refine lv_iconst (v := 0) hx hb dX0_with_110 (by decide) ?_
      refine lv_topi (fun v37 ev38 => ?_)
      have hF := nm_s hF ev38
      refine lv_istore (lv' := [(7, .int v37), (0, .ref x0), (3, .int x3), (4, .int x4), (5, .int x5), (6, .int x6)]) hx hb dX0_with_111 hl (by decide) rfl (fun ls hl => ?_)
      exact b_X0_with_113 X _ ih _ _ _ _ _ _ _ _ _ _ _ hp (lv_sub hl [1, 2, 3, 4, 5, 0] rfl) hF
def fb_X0_with_67 (S : mSh) : Nat → mMm → Nat → Int32 → Int32 → Int32 → Option (Int32 × mMm)
  | 0, _, _, _, _, _ => none
  | t + 1, M, x0, x3, x4, x5 => (if ((x4 / (10 : Int32)) + (x4 - x4 / (10 : Int32) * (10 : Int32))) ≤ x5 then nm ((0 : Int32)) fun v26 => nm ((0 : Int32)) fun v28 => (fb_X0_with_104 S FU M x0 x3 x4 v26 v28) else gd ((S x0).1 = 1) (ob (f_X0_oneMore S M x0 (x4 - x4 / (10 : Int32) * (10 : Int32))) fun M33 => nm (x5 + (1 : Int32)) fun v34 => (fb_X0_with_67 S t M33 x0 x3 x4 v34)))
theorem b_X0_with_67 {r : Int32} {M' : mMm} (X : mCx D n0 P p m c cX0_with 8 s args yX0_with.cls meth (some .int)) : ∀ t : Nat, ∀ (M : mMm) (x0 : Nat) (x3 : Int32) (x4 : Int32) (x5 : Int32) (H : Heap) (locs : List Loc) (ls : Array Slot), mHp D n0 S M n s H locs → lv_has ls 8 [(0, .ref x0), (3, .int x3), (4, .int x4), (5, .int x5)] → fb_X0_with_67 S t M x0 x3 x4 x5 = some (r, M') → W p l e Rm_X0_with s m args below meth c H locs 0 0 (MQ below (mQ D n0 (some (.int r)) S M' n) args s 0 0 (mA n0)) (F0 m 67 ls []) := by
  have hx := X.1.1
  have hb := X.1.2.1
  have hown := X.1.2.2.2.1
  have hts := X.1.2.2.2.2
  intro t
  induction t with
  | zero =>
    intro M x0 x3 x4 x5 H locs ls hp hl hF
    have hF : none = some (r, M') := hF
    cases hF
  | succ t ih =>
    intro M x0 x3 x4 x5 H locs ls hp hl hF
    rw [fb_X0_with_67] at hF
    refine lv_iload hx hb dX0_with_67 (lv_at hl 3 rfl) ?_
    refine lv_iload hx hb dX0_with_69 (lv_at hl 2 rfl) ?_
    refine lv_bipush (v := 10) hx hb dX0_with_71 (by decide) ?_
    refine lv_idiv hx hb dX0_with_73 (by decide) ?_
    refine lv_iload hx hb dX0_with_74 (lv_at hl 2 rfl) ?_
    refine lv_bipush (v := 10) hx hb dX0_with_76 (by decide) ?_
    refine lv_irem hx hb dX0_with_78 (by decide) ?_
    refine lv_iadd hx hb dX0_with_79 ?_
    refine lv_icmp_ge (tgt := 98) hx hb dX0_with_80 (by decide) (fun c25 => ?_) (fun c25 => ?_)
    · have hF := if_p c25 hF
      refine lv_iconst (v := 0) hx hb dX0_with_98 (by decide) ?_
      refine lv_topi (fun v26 ev27 => ?_)
      have hF := nm_s hF ev27
      refine lv_istore (lv' := [(5, .int v26), (0, .ref x0), (3, .int x3), (4, .int x4)]) hx hb dX0_with_99 hl (by decide) rfl (fun ls hl => ?_)
      refine lv_iconst (v := 0) hx hb dX0_with_101 (by decide) ?_
      refine lv_topi (fun v28 ev29 => ?_)
      have hF := nm_s hF ev29
      refine lv_istore (lv' := [(6, .int v28), (5, .int v26), (0, .ref x0), (3, .int x3), (4, .int x4)]) hx hb dX0_with_102 hl (by decide) rfl (fun ls hl => ?_)
      exact b_X0_with_104 X _ _ _ _ _ _ _ _ _ _ hp (lv_sub hl [2, 3, 4, 1, 0] rfl) hF
    · have hF := if_n c25 hF
      refine lv_aload_n hx hb dX0_with_83 rfl (lv_at hl 0 rfl) ?_
      refine lv_iload hx hb dX0_with_84 (lv_at hl 2 rfl) ?_
      refine lv_bipush (v := 10) hx hb dX0_with_86 (by decide) ?_
      refine lv_irem hx hb dX0_with_88 (by decide) ?_
      obtain ⟨g30, hF⟩ := gd_s hF
      obtain ⟨M33, e31, hF⟩ := ob_s hF
      refine m_callV (As := [.int (x4 - x4 / (10 : Int32) * (10 : Int32))]) (rest := []) X hp (w_X0_oneMore e31) q1254 q1256 qs46 q132 q1257 1 rfl ds_X0_oneMore ⟨Nat.le_of_ble_eq_true rfl, Nat.le_of_ble_eq_true rfl⟩ 1 (T := TX0) (N := 30) rfl (by decide) g30 hl.1 rfl (Nat.le_of_ble_eq_true rfl) dX0_with_89 ⟨Nat.le_refl 0, Nat.le_refl 0⟩ (fun H locs hp => ?_)
      obtain ⟨v34, ev35⟩ : ∃ y : Int32, y = x5 + (1 : Int32) := ⟨_, rfl⟩
      have hF := nm_s hF ev35
      refine lv_iinc (v := v34) (lv' := [(5, .int v34), (0, .ref x0), (3, .int x3), (4, .int x4)]) hx hb dX0_with_92 hl (k := 3) rfl (by rw [ev35]; rfl) (by decide) rfl (fun ls hl => ?_)
      refine lv_goto (tgt := 67) hx hb dX0_with_95 (by decide) ?_
      exact ih _ _ _ _ _ _ _ _ hp (lv_sub hl [1, 2, 3, 0] rfl) hF
def f_X0_with (S : mSh) (M : mMm) (x0 : Nat) (x1 : Int32) (x2 : Int32) (x3 : Int32) (x4 : Int32) : Option (Int32 × mMm) := gd ((S x0).1 = 1) (ob (f_X0_canAsk S M x0 x1 x2 x3) fun v3 => (if v3 = 0 then some ((-1 : Int32), M) else (if x4 < 0 then some ((-1 : Int32), M) else ob (f_X0_isIn (x4 / (10 : Int32)) (0 : Int32) (20 : Int32)) fun v7 => (if v7 = 0 then some ((-1 : Int32), M) else (if (x4 - x4 / (10 : Int32) * (10 : Int32)) ≤ (6 : Int32) then ob (rR S M x0 1 13) fun v10 => ob (f_X0_clears S M x0 v10) fun M14 => ob (rR S M14 x0 1 13) fun v15 => ob (aR S M14 v15 109 (0 : Int32)) fun v17 => ob (aR S M14 v17 108 (0 : Int32)) fun v19 => ob (wA S M14 v19 100 (((4 : Int32) * x1) + x2) (.int (1 : Int32))) fun M21 => nm ((0 : Int32)) fun v23 => (fb_X0_with_67 S FU M21 x0 x3 x4 v23) else some ((-1 : Int32), M))))))
theorem w_X0_with {x0 : Nat} {x1 : Int32} {x2 : Int32} {x3 : Int32} {x4 : Int32} {r : Int32} {M' : mMm} (hF : f_X0_with S M x0 x1 x2 x3 x4 = some (r, M')) : mCt l D n0 P yX0_with cX0_with 8 (some .int) 4 92 0 0 [.ref x0, .int x1, .int x2, .int x3, .int x4] S M n (some (.int r)) S M' n := by
  refine m_ofW (by decide) (Nat.le_of_ble_eq_true rfl) (fun p e s m below meth c X hnm hp ls hl => ?_)
  have hx := X.1.1
  have hb := X.1.2.1
  have hown := X.1.2.2.2.1
  have hts := X.1.2.2.2.2
  have hl : lv_has ls 8 [(0, .ref x0), (1, .int x1), (2, .int x2), (3, .int x3), (4, .int x4)] := hl
  unfold f_X0_with at hF
  refine lv_aload_n hx hb dX0_with_0 rfl (lv_at hl 0 rfl) ?_
  refine lv_iload_n hx hb dX0_with_1 rfl (lv_at hl 1 rfl) ?_
  refine lv_iload_n hx hb dX0_with_2 rfl (lv_at hl 2 rfl) ?_
  refine lv_iload_n hx hb dX0_with_3 rfl (lv_at hl 3 rfl) ?_
  obtain ⟨g1, hF⟩ := gd_s hF
  obtain ⟨v3, e2, hF⟩ := ob_s hF
  refine m_callV (As := [.int x1, .int x2, .int x3]) (rest := []) X hp (w_X0_canAsk e2) q1224 q1226 qs40 q132 q1227 3 rfl ds_X0_canAsk ⟨Nat.le_of_ble_eq_true rfl, Nat.le_of_ble_eq_true rfl⟩ 1 (T := TX0) (N := 30) rfl (by decide) g1 hl.1 rfl (Nat.le_of_ble_eq_true rfl) dX0_with_4 ⟨Nat.le_refl 0, Nat.le_refl 0⟩ (fun H locs hp => ?_)
  refine lv_if_eq (tgt := 39) hx hb dX0_with_7 (by decide) (fun c4 => ?_) (fun c4 => ?_)
  · have hF := if_p c4 hF
    refine lv_iconst (v := -1) hx hb dX0_with_39 (by decide) ?_
    cases hF
    exact m_iret X hp dX0_with_40
  · have hF := if_n c4 hF
    refine lv_iload hx hb dX0_with_10 (lv_at hl 4 rfl) ?_
    refine lv_if_lt (tgt := 39) hx hb dX0_with_12 (by decide) (fun c5 => ?_) (fun c5 => ?_)
    · have hF := if_p c5 hF
      refine lv_iconst (v := -1) hx hb dX0_with_39 (by decide) ?_
      cases hF
      exact m_iret X hp dX0_with_40
    · have hF := if_n c5 hF
      refine lv_iload hx hb dX0_with_15 (lv_at hl 4 rfl) ?_
      refine lv_bipush (v := 10) hx hb dX0_with_17 (by decide) ?_
      refine lv_idiv hx hb dX0_with_19 (by decide) ?_
      refine lv_iconst (v := 0) hx hb dX0_with_20 (by decide) ?_
      refine lv_bipush (v := 20) hx hb dX0_with_21 (by decide) ?_
      obtain ⟨v7, e6, hF⟩ := ob_s hF
      refine m_callS (As := [.int (x4 / (10 : Int32)), .int (0 : Int32), .int (20 : Int32)]) (rest := []) X hp (w_X0_isIn e6) q565 q566 q132 q567 3 rfl ds_X0_isIn ⟨Nat.le_of_ble_eq_true rfl, Nat.le_of_ble_eq_true rfl⟩ hl.1 rfl (Nat.le_of_ble_eq_true rfl) dX0_with_23 ⟨Nat.le_refl 0, Nat.le_refl 0⟩ (fun H locs hp => ?_)
      refine lv_if_eq (tgt := 39) hx hb dX0_with_26 (by decide) (fun c8 => ?_) (fun c8 => ?_)
      · have hF := if_p c8 hF
        refine lv_iconst (v := -1) hx hb dX0_with_39 (by decide) ?_
        cases hF
        exact m_iret X hp dX0_with_40
      · have hF := if_n c8 hF
        refine lv_iload hx hb dX0_with_29 (lv_at hl 4 rfl) ?_
        refine lv_bipush (v := 10) hx hb dX0_with_31 (by decide) ?_
        refine lv_irem hx hb dX0_with_33 (by decide) ?_
        refine lv_bipush (v := 6) hx hb dX0_with_34 (by decide) ?_
        refine lv_icmp_le (tgt := 41) hx hb dX0_with_36 (by decide) (fun c9 => ?_) (fun c9 => ?_)
        · have hF := if_p c9 hF
          refine lv_aload_n hx hb dX0_with_41 rfl (lv_at hl 0 rfl) ?_
          refine lv_aload_n hx hb dX0_with_42 rfl (lv_at hl 0 rfl) ?_
          obtain ⟨v10, e11, hF⟩ := ob_s hF
          refine m_getR X hp e11 kX0 (Nat.le_of_ble_eq_true rfl) q473 dX0_with_43 ?_
          obtain ⟨M14, e12, hF⟩ := ob_s hF
          refine m_callV (As := [.ref v10]) (rest := []) X hp (w_X0_clears e12) q1250 q1252 qs45 q132 q1253 1 rfl ds_X0_clears ⟨Nat.le_of_ble_eq_true rfl, Nat.le_of_ble_eq_true rfl⟩ 1 (T := TX0) (N := 30) rfl (by decide) (rR_s e11).1 hl.1 rfl (Nat.le_of_ble_eq_true rfl) dX0_with_46 ⟨Nat.le_refl 0, Nat.le_refl 0⟩ (fun H locs hp => ?_)
          refine lv_aload_n hx hb dX0_with_49 rfl (lv_at hl 0 rfl) ?_
          obtain ⟨v15, e16, hF⟩ := ob_s hF
          refine m_getR X hp e16 kX0 (Nat.le_of_ble_eq_true rfl) q473 dX0_with_50 ?_
          refine lv_iconst (v := 0) hx hb dX0_with_53 (by decide) ?_
          obtain ⟨v17, e18, hF⟩ := ob_s hF
          refine m_aaR 109 X hp e18 rfl (by decide) rfl dX0_with_54 ?_
          refine lv_iconst (v := 0) hx hb dX0_with_55 (by decide) ?_
          obtain ⟨v19, e20, hF⟩ := ob_s hF
          refine m_aaR 108 X hp e20 rfl (by decide) rfl dX0_with_56 ?_
          refine lv_iconst (v := 4) hx hb dX0_with_57 (by decide) ?_
          refine lv_iload_n hx hb dX0_with_58 rfl (lv_at hl 1 rfl) ?_
          refine lv_imul hx hb dX0_with_59 ?_
          refine lv_iload_n hx hb dX0_with_60 rfl (lv_at hl 2 rfl) ?_
          refine lv_iadd hx hb dX0_with_61 ?_
          refine lv_iconst (v := 1) hx hb dX0_with_62 (by decide) ?_
          obtain ⟨M21, e22, hF⟩ := ob_s hF
          refine m_iaW X hp e22 dX0_with_63 (fun H locs hp => ?_)
          refine lv_iconst (v := 0) hx hb dX0_with_64 (by decide) ?_
          refine lv_topi (fun v23 ev24 => ?_)
          have hF := nm_s hF ev24
          refine lv_istore (lv' := [(5, .int v23), (0, .ref x0), (1, .int x1), (2, .int x2), (3, .int x3), (4, .int x4)]) hx hb dX0_with_65 hl (by decide) rfl (fun ls hl => ?_)
          exact b_X0_with_67 X _ _ _ _ _ _ _ _ _ hp (lv_sub hl [1, 4, 5, 0] rfl) hF
        · have hF := if_n c9 hF
          refine lv_iconst (v := -1) hx hb dX0_with_39 (by decide) ?_
          cases hF
          exact m_iret X hp dX0_with_40
end
section
variable {l : Launch} {D : va_G} {n0 : Nat} {P : mP} {S : mSh} {M : mMm} {n : Nat} {p : Program} {e : Env} {s : State} {m : MethodId} {args : Array Value} {below : List Frame} {meth : Method} {c : Code}
abbrev Rm_X5_abs : Room := { frames := 0, cells := 0, slots := 0, locals := 0 }
def f_X5_abs (x0 : Int32) : Option Int32 := (if 0 ≤ x0 then some x0 else some (-x0))
theorem w_X5_abs {x0 : Int32} {r : Int32} (hF : f_X5_abs x0 = some r) : mCt l D n0 P yX5_abs cX5_abs 1 (some .int) 0 0 0 0 [.int x0] S M n (some (.int r)) S M n := by
  refine m_ofW (by decide) (Nat.le_of_ble_eq_true rfl) (fun p e s m below meth c X hnm hp ls hl => ?_)
  have hx := X.1.1
  have hb := X.1.2.1
  have hown := X.1.2.2.2.1
  have hts := X.1.2.2.2.2
  have hl : lv_has ls 1 [(0, .int x0)] := hl
  unfold f_X5_abs at hF
  refine lv_iload_n hx hb dX5_abs_0 rfl (lv_at hl 0 rfl) ?_
  refine lv_if_ge (tgt := 9) hx hb dX5_abs_1 (by decide) (fun c1 => ?_) (fun c1 => ?_)
  · have hF := if_p c1 hF
    refine lv_iload_n hx hb dX5_abs_9 rfl (lv_at hl 0 rfl) ?_
    cases hF
    exact m_iret X hp dX5_abs_10
  · have hF := if_n c1 hF
    refine lv_iload_n hx hb dX5_abs_4 rfl (lv_at hl 0 rfl) ?_
    refine lv_ineg hx hb dX5_abs_5 ?_
    refine lv_goto (tgt := 10) hx hb dX5_abs_6 (by decide) ?_
    cases hF
    exact m_iret X hp dX5_abs_10
end
section
variable {l : Launch} {D : va_G} {n0 : Nat} {P : mP} {S : mSh} {M : mMm} {n : Nat} {p : Program} {e : Env} {s : State} {m : MethodId} {args : Array Value} {below : List Frame} {meth : Method} {c : Code}
abbrev Rm_X5_adds : Room := { frames := 0, cells := 0, slots := 0, locals := 0 }
def f_X5_adds (S : mSh) (M : mMm) (x0 : Nat) (x1 : Int32) (x2 : Int32) (x3 : Int32) : Option mMm := ob (rR S M x0 6 1) fun v1 => nm ((((144 : Int32) + ((12 : Int32) * x1)) + x2)) fun v3 => ob (aI S M v1 100 v3) fun v5 => ob (wA S M v1 100 v3 (.int (v5 + x3))) fun M7 => some M7
theorem w_X5_adds {x0 : Nat} {x1 : Int32} {x2 : Int32} {x3 : Int32} {M' : mMm} (hF : f_X5_adds S M x0 x1 x2 x3 = some M') : mCt l D n0 P yX5_adds cX5_adds 4 none 0 0 0 0 [.ref x0, .int x1, .int x2, .int x3] S M n none S M' n := by
  refine m_ofW (by decide) (Nat.le_of_ble_eq_true rfl) (fun p e s m below meth c X hnm hp ls hl => ?_)
  have hx := X.1.1
  have hb := X.1.2.1
  have hown := X.1.2.2.2.1
  have hts := X.1.2.2.2.2
  have hl : lv_has ls 4 [(0, .ref x0), (1, .int x1), (2, .int x2), (3, .int x3)] := hl
  unfold f_X5_adds at hF
  refine lv_aload_n hx hb dX5_adds_0 rfl (lv_at hl 0 rfl) ?_
  obtain ⟨v1, e2, hF⟩ := ob_s hF
  refine m_getR X hp e2 kX5 (Nat.le_of_ble_eq_true rfl) q1460 dX5_adds_1 ?_
  refine lv_sipush (v := 144) hx hb dX5_adds_4 (by decide) ?_
  refine lv_bipush (v := 12) hx hb dX5_adds_7 (by decide) ?_
  refine lv_iload_n hx hb dX5_adds_9 rfl (lv_at hl 1 rfl) ?_
  refine lv_imul hx hb dX5_adds_10 ?_
  refine lv_iadd hx hb dX5_adds_11 ?_
  refine lv_iload_n hx hb dX5_adds_12 rfl (lv_at hl 2 rfl) ?_
  refine lv_iadd hx hb dX5_adds_13 ?_
  refine lv_topi (fun v3 ev4 => ?_)
  have hF := nm_s hF ev4
  refine lv_dup2_11 hx hb dX5_adds_14 rfl rfl ?_
  obtain ⟨v5, e6, hF⟩ := ob_s hF
  refine m_iaI X hp e6 dX5_adds_15 ?_
  refine lv_iload_n hx hb dX5_adds_16 rfl (lv_at hl 3 rfl) ?_
  refine lv_iadd hx hb dX5_adds_17 ?_
  obtain ⟨M7, e8, hF⟩ := ob_s hF
  refine m_iaW X hp e8 dX5_adds_18 (fun H locs hp => ?_)
  cases hF
  exact m_vret X hp dX5_adds_19
end
section
variable {l : Launch} {D : va_G} {n0 : Nat} {P : mP} {S : mSh} {M : mMm} {n : Nat} {p : Program} {e : Env} {s : State} {m : MethodId} {args : Array Value} {below : List Frame} {meth : Method} {c : Code}
abbrev Rm_X5_again : Room := { frames := 0, cells := 0, slots := 0, locals := 0 }
def fb_X5_again_61 (S : mSh) (M : mMm) (k17 : Nat → Int32 → Int32 → Int32 → Int32 → Option Int32) (x0 : Nat) (x1 : Int32) (x2 : Int32) (x4 : Int32) (y0 : Int32) (y1 : Int32) : Option Int32 := nm ((y1 + y0)) fun v32 => nm (x4 + (1 : Int32)) fun v34 => (k17 x0 x1 x2 v32 v34)
theorem b_X5_again_61 {r : Int32} (X : mCx D n0 P p m c cX5_again 5 s args yX5_again.cls meth (some .int)) (k17 : Nat → Int32 → Int32 → Int32 → Int32 → Option Int32) (hk17 : ∀ (x0 : Nat) (x1 : Int32) (x2 : Int32) (x3 : Int32) (x4 : Int32) (H : Heap) (locs : List Loc) (ls : Array Slot), mHp D n0 S M n s H locs → lv_has ls 5 [(0, .ref x0), (1, .int x1), (2, .int x2), (3, .int x3), (4, .int x4)] → k17 x0 x1 x2 x3 x4 = some r → W p l e Rm_X5_again s m args below meth c H locs 0 0 (MQ below (mQ D n0 (some (.int r)) S M n) args s 0 0 (mA n0)) (F0 m 17 ls [])) : ∀ (x0 : Nat) (x1 : Int32) (x2 : Int32) (x4 : Int32) (y0 : Int32) (y1 : Int32) (H : Heap) (locs : List Loc) (ls : Array Slot), mHp D n0 S M n s H locs → lv_has ls 5 [(0, .ref x0), (1, .int x1), (2, .int x2), (4, .int x4)] → fb_X5_again_61 S M k17 x0 x1 x2 x4 y0 y1 = some r → W p l e Rm_X5_again s m args below meth c H locs 0 0 (MQ below (mQ D n0 (some (.int r)) S M n) args s 0 0 (mA n0)) (F0 m 61 ls [.int y0, .int y1]) := by
  have hx := X.1.1
  have hb := X.1.2.1
  have hown := X.1.2.2.2.1
  have hts := X.1.2.2.2.2
  intro x0 x1 x2 x4 y0 y1 H locs ls hp hl hF
  unfold fb_X5_again_61 at hF
  refine lv_iadd hx hb dX5_again_61 ?_
  refine lv_topi (fun v32 ev33 => ?_)
  have hF := nm_s hF ev33
  refine lv_istore_n (lv' := [(3, .int v32), (0, .ref x0), (1, .int x1), (2, .int x2), (4, .int x4)]) hx hb dX5_again_62 rfl hl (by decide) rfl (fun ls hl => ?_)
  obtain ⟨v34, ev35⟩ : ∃ y : Int32, y = x4 + (1 : Int32) := ⟨_, rfl⟩
  have hF := nm_s hF ev35
  refine lv_iinc (v := v34) (lv' := [(4, .int v34), (3, .int v32), (0, .ref x0), (1, .int x1), (2, .int x2)]) hx hb dX5_again_63 hl (k := 4) rfl (by rw [ev35]; rfl) (by decide) rfl (fun ls hl => ?_)
  refine lv_goto (tgt := 17) hx hb dX5_again_66 (by decide) ?_
  exact hk17 _ _ _ _ _ _ _ _ hp (lv_sub hl [2, 3, 4, 1, 0] rfl) hF
def fb_X5_again_80 (S : mSh) (M : mMm) (k4 : Nat → Int32 → Int32 → Option Int32) (x0 : Nat) (x2 : Int32) (y0 : Int32) (y1 : Int32) : Option Int32 := nm ((y1 + y0)) fun v36 => nm (x2 + (1 : Int32)) fun v38 => (k4 x0 v36 v38)
theorem b_X5_again_80 {r : Int32} (X : mCx D n0 P p m c cX5_again 5 s args yX5_again.cls meth (some .int)) (k4 : Nat → Int32 → Int32 → Option Int32) (hk4 : ∀ (x0 : Nat) (x1 : Int32) (x2 : Int32) (H : Heap) (locs : List Loc) (ls : Array Slot), mHp D n0 S M n s H locs → lv_has ls 5 [(0, .ref x0), (1, .int x1), (2, .int x2)] → k4 x0 x1 x2 = some r → W p l e Rm_X5_again s m args below meth c H locs 0 0 (MQ below (mQ D n0 (some (.int r)) S M n) args s 0 0 (mA n0)) (F0 m 4 ls [])) : ∀ (x0 : Nat) (x2 : Int32) (y0 : Int32) (y1 : Int32) (H : Heap) (locs : List Loc) (ls : Array Slot), mHp D n0 S M n s H locs → lv_has ls 5 [(0, .ref x0), (2, .int x2)] → fb_X5_again_80 S M k4 x0 x2 y0 y1 = some r → W p l e Rm_X5_again s m args below meth c H locs 0 0 (MQ below (mQ D n0 (some (.int r)) S M n) args s 0 0 (mA n0)) (F0 m 80 ls [.int y0, .int y1]) := by
  have hx := X.1.1
  have hb := X.1.2.1
  have hown := X.1.2.2.2.1
  have hts := X.1.2.2.2.2
  intro x0 x2 y0 y1 H locs ls hp hl hF
  unfold fb_X5_again_80 at hF
  refine lv_iadd hx hb dX5_again_80 ?_
  refine lv_topi (fun v36 ev37 => ?_)
  have hF := nm_s hF ev37
  refine lv_istore_n (lv' := [(1, .int v36), (0, .ref x0), (2, .int x2)]) hx hb dX5_again_81 rfl hl (by decide) rfl (fun ls hl => ?_)
  obtain ⟨v38, ev39⟩ : ∃ y : Int32, y = x2 + (1 : Int32) := ⟨_, rfl⟩
  have hF := nm_s hF ev39
  refine lv_iinc (v := v38) (lv' := [(2, .int v38), (1, .int v36), (0, .ref x0)]) hx hb dX5_again_82 hl (k := 2) rfl (by rw [ev39]; rfl) (by decide) rfl (fun ls hl => ?_)
  refine lv_goto (tgt := 4) hx hb dX5_again_85 (by decide) ?_
  exact hk4 _ _ _ _ _ _ hp (lv_sub hl [2, 1, 0] rfl) hF
def fb_X5_again_17 (S : mSh) (M : mMm) (k4 : Nat → Int32 → Int32 → Option Int32) : Nat → Nat → Int32 → Int32 → Int32 → Int32 → Option Int32
  | 0, _, _, _, _, _ => none
  | t + 1, x0, x1, x2, x3, x4 => (if x2 ≤ x4 then (if x3 = (1 : Int32) then (fb_X5_again_80 S M k4 x0 x2 (1 : Int32) x1) else (fb_X5_again_80 S M k4 x0 x2 (0 : Int32) x1)) else ob (rR S M x0 6 26) fun v14 => ob (aI S M v14 100 x4) fun v16 => ob (rR S M x0 6 26) fun v18 => ob (aI S M v18 100 x2) fun v20 => (if v16 = v20 then ob (rR S M x0 6 27) fun v23 => ob (aI S M v23 100 x4) fun v25 => ob (rR S M x0 6 27) fun v27 => ob (aI S M v27 100 x2) fun v29 => (if v25 = v29 then (fb_X5_again_61 S M (fb_X5_again_17 S M k4 t) x0 x1 x2 x4 (1 : Int32) x3) else (fb_X5_again_61 S M (fb_X5_again_17 S M k4 t) x0 x1 x2 x4 (0 : Int32) x3)) else (fb_X5_again_61 S M (fb_X5_again_17 S M k4 t) x0 x1 x2 x4 (0 : Int32) x3)))
theorem b_X5_again_17 {r : Int32} (X : mCx D n0 P p m c cX5_again 5 s args yX5_again.cls meth (some .int)) (k4 : Nat → Int32 → Int32 → Option Int32) (hk4 : ∀ (x0 : Nat) (x1 : Int32) (x2 : Int32) (H : Heap) (locs : List Loc) (ls : Array Slot), mHp D n0 S M n s H locs → lv_has ls 5 [(0, .ref x0), (1, .int x1), (2, .int x2)] → k4 x0 x1 x2 = some r → W p l e Rm_X5_again s m args below meth c H locs 0 0 (MQ below (mQ D n0 (some (.int r)) S M n) args s 0 0 (mA n0)) (F0 m 4 ls [])) : ∀ t : Nat, ∀ (x0 : Nat) (x1 : Int32) (x2 : Int32) (x3 : Int32) (x4 : Int32) (H : Heap) (locs : List Loc) (ls : Array Slot), mHp D n0 S M n s H locs → lv_has ls 5 [(0, .ref x0), (1, .int x1), (2, .int x2), (3, .int x3), (4, .int x4)] → fb_X5_again_17 S M k4 t x0 x1 x2 x3 x4 = some r → W p l e Rm_X5_again s m args below meth c H locs 0 0 (MQ below (mQ D n0 (some (.int r)) S M n) args s 0 0 (mA n0)) (F0 m 17 ls []) := by
  have hx := X.1.1
  have hb := X.1.2.1
  have hown := X.1.2.2.2.1
  have hts := X.1.2.2.2.2
  intro t
  induction t with
  | zero =>
    intro x0 x1 x2 x3 x4 H locs ls hp hl hF
    have hF : none = some r := hF
    cases hF
  | succ t ih =>
    intro x0 x1 x2 x3 x4 H locs ls hp hl hF
    rw [fb_X5_again_17] at hF
    refine lv_iload hx hb dX5_again_17 (lv_at hl 4 rfl) ?_
    refine lv_iload_n hx hb dX5_again_19 rfl (lv_at hl 2 rfl) ?_
    refine lv_icmp_ge (tgt := 69) hx hb dX5_again_20 (by decide) (fun c12 => ?_) (fun c12 => ?_)
    · have hF := if_p c12 hF
      refine lv_iload_n hx hb dX5_again_69 rfl (lv_at hl 1 rfl) ?_
      refine lv_iload_n hx hb dX5_again_70 rfl (lv_at hl 3 rfl) ?_
      refine lv_iconst (v := 1) hx hb dX5_again_71 (by decide) ?_
      refine lv_icmp_ne (tgt := 79) hx hb dX5_again_72 (by decide) (fun c13 => ?_) (fun c13 => ?_)
      · have hF := if_n c13 hF
        refine lv_iconst (v := 0) hx hb dX5_again_79 (by decide) ?_
        exact b_X5_again_80 X _ hk4 _ _ _ _ _ _ _ hp (lv_sub hl [0, 2] rfl) hF
      · have hF := if_p c13 hF
        refine lv_iconst (v := 1) hx hb dX5_again_75 (by decide) ?_
        refine lv_goto (tgt := 80) hx hb dX5_again_76 (by decide) ?_
        exact b_X5_again_80 X _ hk4 _ _ _ _ _ _ _ hp (lv_sub hl [0, 2] rfl) hF
    · have hF := if_n c12 hF
      refine lv_iload_n hx hb dX5_again_23 rfl (lv_at hl 3 rfl) ?_
      refine lv_aload_n hx hb dX5_again_24 rfl (lv_at hl 0 rfl) ?_
      obtain ⟨v14, e15, hF⟩ := ob_s hF
      refine m_getR X hp e15 kX5 (Nat.le_of_ble_eq_true rfl) q1485 dX5_again_25 ?_
      refine lv_iload hx hb dX5_again_28 (lv_at hl 4 rfl) ?_
      obtain ⟨v16, e17, hF⟩ := ob_s hF
      refine m_iaI X hp e17 dX5_again_30 ?_
      refine lv_aload_n hx hb dX5_again_31 rfl (lv_at hl 0 rfl) ?_
      obtain ⟨v18, e19, hF⟩ := ob_s hF
      refine m_getR X hp e19 kX5 (Nat.le_of_ble_eq_true rfl) q1485 dX5_again_32 ?_
      refine lv_iload_n hx hb dX5_again_35 rfl (lv_at hl 2 rfl) ?_
      obtain ⟨v20, e21, hF⟩ := ob_s hF
      refine m_iaI X hp e21 dX5_again_36 ?_
      refine lv_icmp_ne (tgt := 60) hx hb dX5_again_37 (by decide) (fun c22 => ?_) (fun c22 => ?_)
      · have hF := if_n c22 hF
        refine lv_iconst (v := 0) hx hb dX5_again_60 (by decide) ?_
        exact b_X5_again_61 X _ ih _ _ _ _ _ _ _ _ _ hp (lv_sub hl [0, 1, 2, 4] rfl) hF
      · have hF := if_p c22 hF
        refine lv_aload_n hx hb dX5_again_40 rfl (lv_at hl 0 rfl) ?_
        obtain ⟨v23, e24, hF⟩ := ob_s hF
        refine m_getR X hp e24 kX5 (Nat.le_of_ble_eq_true rfl) q1486 dX5_again_41 ?_
        refine lv_iload hx hb dX5_again_44 (lv_at hl 4 rfl) ?_
        obtain ⟨v25, e26, hF⟩ := ob_s hF
        refine m_iaI X hp e26 dX5_again_46 ?_
        refine lv_aload_n hx hb dX5_again_47 rfl (lv_at hl 0 rfl) ?_
        obtain ⟨v27, e28, hF⟩ := ob_s hF
        refine m_getR X hp e28 kX5 (Nat.le_of_ble_eq_true rfl) q1486 dX5_again_48 ?_
        refine lv_iload_n hx hb dX5_again_51 rfl (lv_at hl 2 rfl) ?_
        obtain ⟨v29, e30, hF⟩ := ob_s hF
        refine m_iaI X hp e30 dX5_again_52 ?_
        refine lv_icmp_ne (tgt := 60) hx hb dX5_again_53 (by decide) (fun c31 => ?_) (fun c31 => ?_)
        · have hF := if_n c31 hF
          refine lv_iconst (v := 0) hx hb dX5_again_60 (by decide) ?_
          exact b_X5_again_61 X _ ih _ _ _ _ _ _ _ _ _ hp (lv_sub hl [0, 1, 2, 4] rfl) hF
        · have hF := if_p c31 hF
          refine lv_iconst (v := 1) hx hb dX5_again_56 (by decide) ?_
          refine lv_goto (tgt := 61) hx hb dX5_again_57 (by decide) ?_
          exact b_X5_again_61 X _ ih _ _ _ _ _ _ _ _ _ hp (lv_sub hl [0, 1, 2, 4] rfl) hF
def fb_X5_again_4 (S : mSh) (M : mMm) : Nat → Nat → Int32 → Int32 → Option Int32
  | 0, _, _, _ => none
  | t + 1, x0, x1, x2 => ob (rI S M x0 6 28) fun v5 => (if v5 ≤ x2 then some x1 else nm ((0 : Int32)) fun v8 => nm ((0 : Int32)) fun v10 => (fb_X5_again_17 S M (fb_X5_again_4 S M t) FU x0 x1 x2 v8 v10))
theorem b_X5_again_4 {r : Int32} (X : mCx D n0 P p m c cX5_again 5 s args yX5_again.cls meth (some .int)) : ∀ t : Nat, ∀ (x0 : Nat) (x1 : Int32) (x2 : Int32) (H : Heap) (locs : List Loc) (ls : Array Slot), mHp D n0 S M n s H locs → lv_has ls 5 [(0, .ref x0), (1, .int x1), (2, .int x2)] → fb_X5_again_4 S M t x0 x1 x2 = some r → W p l e Rm_X5_again s m args below meth c H locs 0 0 (MQ below (mQ D n0 (some (.int r)) S M n) args s 0 0 (mA n0)) (F0 m 4 ls []) := by
  have hx := X.1.1
  have hb := X.1.2.1
  have hown := X.1.2.2.2.1
  have hts := X.1.2.2.2.2
  intro t
  induction t with
  | zero =>
    intro x0 x1 x2 H locs ls hp hl hF
    have hF : none = some r := hF
    cases hF
  | succ t ih =>
    intro x0 x1 x2 H locs ls hp hl hF
    rw [fb_X5_again_4] at hF
    refine lv_iload_n hx hb dX5_again_4 rfl (lv_at hl 2 rfl) ?_
    refine lv_aload_n hx hb dX5_again_5 rfl (lv_at hl 0 rfl) ?_
    obtain ⟨v5, e6, hF⟩ := ob_s hF
    refine m_getI X hp e6 kX5 (Nat.le_of_ble_eq_true rfl) q1487 dX5_again_6 ?_
    refine lv_icmp_ge (tgt := 88) hx hb dX5_again_9 (by decide) (fun c7 => ?_) (fun c7 => ?_)
    · have hF := if_p c7 hF
      refine lv_iload_n hx hb dX5_again_88 rfl (lv_at hl 1 rfl) ?_
      cases hF
      exact m_iret X hp dX5_again_89
    · have hF := if_n c7 hF
      refine lv_iconst (v := 0) hx hb dX5_again_12 (by decide) ?_
      refine lv_topi (fun v8 ev9 => ?_)
      have hF := nm_s hF ev9
      refine lv_istore_n (lv' := [(3, .int v8), (0, .ref x0), (1, .int x1), (2, .int x2)]) hx hb dX5_again_13 rfl hl (by decide) rfl (fun ls hl => ?_)
      refine lv_iconst (v := 0) hx hb dX5_again_14 (by decide) ?_
      refine lv_topi (fun v10 ev11 => ?_)
      have hF := nm_s hF ev11
      refine lv_istore (lv' := [(4, .int v10), (3, .int v8), (0, .ref x0), (1, .int x1), (2, .int x2)]) hx hb dX5_again_15 hl (by decide) rfl (fun ls hl => ?_)
      exact b_X5_again_17 X _ ih _ _ _ _ _ _ _ _ _ hp (lv_sub hl [2, 3, 4, 1, 0] rfl) hF
def f_X5_again (S : mSh) (M : mMm) (x0 : Nat) : Option Int32 := nm ((0 : Int32)) fun v1 => nm ((0 : Int32)) fun v3 => (fb_X5_again_4 S M FU x0 v1 v3)
theorem w_X5_again {x0 : Nat} {r : Int32} (hF : f_X5_again S M x0 = some r) : mCt l D n0 P yX5_again cX5_again 5 (some .int) 0 0 0 0 [.ref x0] S M n (some (.int r)) S M n := by
  refine m_ofW (by decide) (Nat.le_of_ble_eq_true rfl) (fun p e s m below meth c X hnm hp ls hl => ?_)
  have hx := X.1.1
  have hb := X.1.2.1
  have hown := X.1.2.2.2.1
  have hts := X.1.2.2.2.2
  have hl : lv_has ls 5 [(0, .ref x0)] := hl
  unfold f_X5_again at hF
  refine lv_iconst (v := 0) hx hb dX5_again_0 (by decide) ?_
  refine lv_topi (fun v1 ev2 => ?_)
  have hF := nm_s hF ev2
  refine lv_istore_n (lv' := [(1, .int v1), (0, .ref x0)]) hx hb dX5_again_1 rfl hl (by decide) rfl (fun ls hl => ?_)
  refine lv_iconst (v := 0) hx hb dX5_again_2 (by decide) ?_
  refine lv_topi (fun v3 ev4 => ?_)
  have hF := nm_s hF ev4
  refine lv_istore_n (lv' := [(2, .int v3), (1, .int v1), (0, .ref x0)]) hx hb dX5_again_3 rfl hl (by decide) rfl (fun ls hl => ?_)
  exact b_X5_again_4 X _ _ _ _ _ _ _ hp (lv_sub hl [2, 1, 0] rfl) hF
end
section
variable {l : Launch} {D : va_G} {n0 : Nat} {P : mP} {S : mSh} {M : mMm} {n : Nat} {p : Program} {e : Env} {s : State} {m : MethodId} {args : Array Value} {below : List Frame} {meth : Method} {c : Code}
abbrev Rm_X5_within : Room := { frames := 0, cells := 0, slots := 0, locals := 0 }
def f_X5_within (x0 : Int32) (x1 : Int32) (x2 : Int32) : Option Int32 := (if x0 < x1 then some (0 : Int32) else (if x2 < x0 then some (0 : Int32) else some (1 : Int32)))
theorem w_X5_within {x0 : Int32} {x1 : Int32} {x2 : Int32} {r : Int32} (hF : f_X5_within x0 x1 x2 = some r) : mCt l D n0 P yX5_within cX5_within 3 (some .boolean) 0 0 0 0 [.int x0, .int x1, .int x2] S M n (some (.int r)) S M n := by
  refine m_ofW (by decide) (Nat.le_of_ble_eq_true rfl) (fun p e s m below meth c X hnm hp ls hl => ?_)
  have hx := X.1.1
  have hb := X.1.2.1
  have hown := X.1.2.2.2.1
  have hts := X.1.2.2.2.2
  have hl : lv_has ls 3 [(0, .int x0), (1, .int x1), (2, .int x2)] := hl
  unfold f_X5_within at hF
  refine lv_iload_n hx hb dX5_within_0 rfl (lv_at hl 0 rfl) ?_
  refine lv_iload_n hx hb dX5_within_1 rfl (lv_at hl 1 rfl) ?_
  refine lv_icmp_lt (tgt := 14) hx hb dX5_within_2 (by decide) (fun c1 => ?_) (fun c1 => ?_)
  · have hF := if_p c1 hF
    refine lv_iconst (v := 0) hx hb dX5_within_14 (by decide) ?_
    cases hF
    exact m_zret X hp rfl dX5_within_15
  · have hF := if_n c1 hF
    refine lv_iload_n hx hb dX5_within_5 rfl (lv_at hl 0 rfl) ?_
    refine lv_iload_n hx hb dX5_within_6 rfl (lv_at hl 2 rfl) ?_
    refine lv_icmp_gt (tgt := 14) hx hb dX5_within_7 (by decide) (fun c2 => ?_) (fun c2 => ?_)
    · have hF := if_p c2 hF
      refine lv_iconst (v := 0) hx hb dX5_within_14 (by decide) ?_
      cases hF
      exact m_zret X hp rfl dX5_within_15
    · have hF := if_n c2 hF
      refine lv_iconst (v := 1) hx hb dX5_within_10 (by decide) ?_
      refine lv_goto (tgt := 15) hx hb dX5_within_11 (by decide) ?_
      cases hF
      exact m_zret X hp rfl dX5_within_15
end
section
variable {l : Launch} {D : va_G} {n0 : Nat} {P : mP} {S : mSh} {M : mMm} {n : Nat} {p : Program} {e : Env} {s : State} {m : MethodId} {args : Array Value} {below : List Frame} {meth : Method} {c : Code}
abbrev Rm_X5_turned : Room := { frames := 0, cells := 0, slots := 0, locals := 0 }
def fb_X5_turned_10 (y0 : Int32) (y1 : Int32) : Option Int32 := some ((y1 + y0) - (y1 + y0) / (4 : Int32) * (4 : Int32))
theorem b_X5_turned_10 {r : Int32} (X : mCx D n0 P p m c cX5_turned 2 s args yX5_turned.cls meth (some .int)) : ∀ (y0 : Int32) (y1 : Int32) (H : Heap) (locs : List Loc) (ls : Array Slot), mHp D n0 S M n s H locs → lv_has ls 2 [] → fb_X5_turned_10 y0 y1 = some r → W p l e Rm_X5_turned s m args below meth c H locs 0 0 (MQ below (mQ D n0 (some (.int r)) S M n) args s 0 0 (mA n0)) (F0 m 10 ls [.int y0, .int y1]) := by
  have hx := X.1.1
  have hb := X.1.2.1
  have hown := X.1.2.2.2.1
  have hts := X.1.2.2.2.2
  intro y0 y1 H locs ls hp hl hF
  unfold fb_X5_turned_10 at hF
  refine lv_iadd hx hb dX5_turned_10 ?_
  refine lv_iconst (v := 4) hx hb dX5_turned_11 (by decide) ?_
  refine lv_irem hx hb dX5_turned_12 (by decide) ?_
  cases hF
  exact m_iret X hp dX5_turned_13
def f_X5_turned (x0 : Int32) (x1 : Int32) : Option Int32 := (if x1 = 0 then (fb_X5_turned_10  (3 : Int32) x0) else (fb_X5_turned_10  x1 x0))
theorem w_X5_turned {x0 : Int32} {x1 : Int32} {r : Int32} (hF : f_X5_turned x0 x1 = some r) : mCt l D n0 P yX5_turned cX5_turned 2 (some .int) 0 0 0 0 [.int x0, .int x1] S M n (some (.int r)) S M n := by
  refine m_ofW (by decide) (Nat.le_of_ble_eq_true rfl) (fun p e s m below meth c X hnm hp ls hl => ?_)
  have hx := X.1.1
  have hb := X.1.2.1
  have hown := X.1.2.2.2.1
  have hts := X.1.2.2.2.2
  have hl : lv_has ls 2 [(0, .int x0), (1, .int x1)] := hl
  unfold f_X5_turned at hF
  refine lv_iload_n hx hb dX5_turned_0 rfl (lv_at hl 0 rfl) ?_
  refine lv_iload_n hx hb dX5_turned_1 rfl (lv_at hl 1 rfl) ?_
  refine lv_if_ne (tgt := 9) hx hb dX5_turned_2 (by decide) (fun c1 => ?_) (fun c1 => ?_)
  · have hF := if_n c1 hF
    refine lv_iload_n hx hb dX5_turned_9 rfl (lv_at hl 1 rfl) ?_
    exact b_X5_turned_10 X  _ _ _ _ _ hp (lv_sub hl [] rfl) hF
  · have hF := if_p c1 hF
    refine lv_iconst (v := 3) hx hb dX5_turned_5 (by decide) ?_
    refine lv_goto (tgt := 10) hx hb dX5_turned_6 (by decide) ?_
    exact b_X5_turned_10 X  _ _ _ _ _ hp (lv_sub hl [] rfl) hF
end
section
variable {l : Launch} {D : va_G} {n0 : Nat} {P : mP} {S : mSh} {M : mMm} {n : Nat} {p : Program} {e : Env} {s : State} {m : MethodId} {args : Array Value} {below : List Frame} {meth : Method} {c : Code}
abbrev Rm_X5_goesX : Room := { frames := 0, cells := 0, slots := 0, locals := 0 }
def f_X5_goesX (x0 : Int32) : Option Int32 := (if x0 = (1 : Int32) then some (1 : Int32) else (if x0 = (3 : Int32) then some (-1 : Int32) else some (0 : Int32)))
theorem w_X5_goesX {x0 : Int32} {r : Int32} (hF : f_X5_goesX x0 = some r) : mCt l D n0 P yX5_goesX cX5_goesX 1 (some .int) 0 0 0 0 [.int x0] S M n (some (.int r)) S M n := by
  refine m_ofW (by decide) (Nat.le_of_ble_eq_true rfl) (fun p e s m below meth c X hnm hp ls hl => ?_)
  have hx := X.1.1
  have hb := X.1.2.1
  have hown := X.1.2.2.2.1
  have hts := X.1.2.2.2.2
  have hl : lv_has ls 1 [(0, .int x0)] := hl
  unfold f_X5_goesX at hF
  refine lv_iload_n hx hb dX5_goesX_0 rfl (lv_at hl 0 rfl) ?_
  refine lv_iconst (v := 1) hx hb dX5_goesX_1 (by decide) ?_
  refine lv_icmp_ne (tgt := 9) hx hb dX5_goesX_2 (by decide) (fun c1 => ?_) (fun c1 => ?_)
  · have hF := if_n c1 hF
    refine lv_iload_n hx hb dX5_goesX_9 rfl (lv_at hl 0 rfl) ?_
    refine lv_iconst (v := 3) hx hb dX5_goesX_10 (by decide) ?_
    refine lv_icmp_ne (tgt := 18) hx hb dX5_goesX_11 (by decide) (fun c2 => ?_) (fun c2 => ?_)
    · have hF := if_n c2 hF
      refine lv_iconst (v := 0) hx hb dX5_goesX_18 (by decide) ?_
      cases hF
      exact m_iret X hp dX5_goesX_19
    · have hF := if_p c2 hF
      refine lv_iconst (v := -1) hx hb dX5_goesX_14 (by decide) ?_
      refine lv_goto (tgt := 19) hx hb dX5_goesX_15 (by decide) ?_
      cases hF
      exact m_iret X hp dX5_goesX_19
  · have hF := if_p c1 hF
    refine lv_iconst (v := 1) hx hb dX5_goesX_5 (by decide) ?_
    refine lv_goto (tgt := 19) hx hb dX5_goesX_6 (by decide) ?_
    cases hF
    exact m_iret X hp dX5_goesX_19
end
section
variable {l : Launch} {D : va_G} {n0 : Nat} {P : mP} {S : mSh} {M : mMm} {n : Nat} {p : Program} {e : Env} {s : State} {m : MethodId} {args : Array Value} {below : List Frame} {meth : Method} {c : Code}
abbrev Rm_X5_goesY : Room := { frames := 0, cells := 0, slots := 0, locals := 0 }
def f_X5_goesY (x0 : Int32) : Option Int32 := (if x0 = 0 then some (1 : Int32) else (if x0 = (2 : Int32) then some (-1 : Int32) else some (0 : Int32)))
theorem w_X5_goesY {x0 : Int32} {r : Int32} (hF : f_X5_goesY x0 = some r) : mCt l D n0 P yX5_goesY cX5_goesY 1 (some .int) 0 0 0 0 [.int x0] S M n (some (.int r)) S M n := by
  refine m_ofW (by decide) (Nat.le_of_ble_eq_true rfl) (fun p e s m below meth c X hnm hp ls hl => ?_)
  have hx := X.1.1
  have hb := X.1.2.1
  have hown := X.1.2.2.2.1
  have hts := X.1.2.2.2.2
  have hl : lv_has ls 1 [(0, .int x0)] := hl
  unfold f_X5_goesY at hF
  refine lv_iload_n hx hb dX5_goesY_0 rfl (lv_at hl 0 rfl) ?_
  refine lv_if_ne (tgt := 8) hx hb dX5_goesY_1 (by decide) (fun c1 => ?_) (fun c1 => ?_)
  · have hF := if_n c1 hF
    refine lv_iload_n hx hb dX5_goesY_8 rfl (lv_at hl 0 rfl) ?_
    refine lv_iconst (v := 2) hx hb dX5_goesY_9 (by decide) ?_
    refine lv_icmp_ne (tgt := 17) hx hb dX5_goesY_10 (by decide) (fun c2 => ?_) (fun c2 => ?_)
    · have hF := if_n c2 hF
      refine lv_iconst (v := 0) hx hb dX5_goesY_17 (by decide) ?_
      cases hF
      exact m_iret X hp dX5_goesY_18
    · have hF := if_p c2 hF
      refine lv_iconst (v := -1) hx hb dX5_goesY_13 (by decide) ?_
      refine lv_goto (tgt := 18) hx hb dX5_goesY_14 (by decide) ?_
      cases hF
      exact m_iret X hp dX5_goesY_18
  · have hF := if_p c1 hF
    refine lv_iconst (v := 1) hx hb dX5_goesY_4 (by decide) ?_
    refine lv_goto (tgt := 18) hx hb dX5_goesY_5 (by decide) ?_
    cases hF
    exact m_iret X hp dX5_goesY_18
end
section
variable {l : Launch} {D : va_G} {n0 : Nat} {P : mP} {S : mSh} {M : mMm} {n : Nat} {p : Program} {e : Env} {s : State} {m : MethodId} {args : Array Value} {below : List Frame} {meth : Method} {c : Code}
abbrev Rm_X5_ant : Room := { frames := 1, cells := 0, slots := 0, locals := 22 }
def fb_X5_ant_165 (S : mSh) (k63 : mMm → Nat → Int32 → Int32 → Int32 → Int32 → Int32 → Int32 → Int32 → Int32 → Option (Int32 × mMm)) (M : mMm) (x0 : Nat) (x1 : Int32) (x2 : Int32) (x3 : Int32) (x4 : Int32) (x5 : Int32) (x6 : Int32) (x8 : Int32) (y0 : Int32) : Option (Int32 × mMm) := ob (f_X5_goesX x5) fun v55 => nm ((x3 + v55)) fun v56 => ob (f_X5_goesY x5) fun v59 => nm ((x4 + v59)) fun v60 => nm (x8 + (1 : Int32)) fun v62 => (k63 M x0 x1 x2 v56 v60 x5 x6 y0 v62)
theorem b_X5_ant_165 {r : Int32} {M' : mMm} (X : mCx D n0 P p m c cX5_ant 11 s args yX5_ant.cls meth (some .int)) (k63 : mMm → Nat → Int32 → Int32 → Int32 → Int32 → Int32 → Int32 → Int32 → Int32 → Option (Int32 × mMm)) (hk63 : ∀ (M : mMm) (x0 : Nat) (x1 : Int32) (x2 : Int32) (x3 : Int32) (x4 : Int32) (x5 : Int32) (x6 : Int32) (x7 : Int32) (x8 : Int32) (H : Heap) (locs : List Loc) (ls : Array Slot), mHp D n0 S M n s H locs → lv_has ls 11 [(0, .ref x0), (1, .int x1), (2, .int x2), (3, .int x3), (4, .int x4), (5, .int x5), (6, .int x6), (7, .int x7), (8, .int x8)] → k63 M x0 x1 x2 x3 x4 x5 x6 x7 x8 = some (r, M') → W p l e Rm_X5_ant s m args below meth c H locs 0 0 (MQ below (mQ D n0 (some (.int r)) S M' n) args s 0 0 (mA n0)) (F0 m 63 ls [])) : ∀ (M : mMm) (x0 : Nat) (x1 : Int32) (x2 : Int32) (x3 : Int32) (x4 : Int32) (x5 : Int32) (x6 : Int32) (x8 : Int32) (y0 : Int32) (H : Heap) (locs : List Loc) (ls : Array Slot), mHp D n0 S M n s H locs → lv_has ls 11 [(0, .ref x0), (1, .int x1), (2, .int x2), (3, .int x3), (4, .int x4), (5, .int x5), (6, .int x6), (8, .int x8)] → fb_X5_ant_165 S k63 M x0 x1 x2 x3 x4 x5 x6 x8 y0 = some (r, M') → W p l e Rm_X5_ant s m args below meth c H locs 0 0 (MQ below (mQ D n0 (some (.int r)) S M' n) args s 0 0 (mA n0)) (F0 m 165 ls [.int y0]) := by
  have hx := X.1.1
  have hb := X.1.2.1
  have hown := X.1.2.2.2.1
  have hts := X.1.2.2.2.2
  intro M x0 x1 x2 x3 x4 x5 x6 x8 y0 H locs ls hp hl hF
  unfold fb_X5_ant_165 at hF
  refine lv_istore (lv' := [(7, .int y0), (0, .ref x0), (1, .int x1), (2, .int x2), (3, .int x3), (4, .int x4), (5, .int x5), (6, .int x6), (8, .int x8)]) hx hb dX5_ant_165 hl (by decide) rfl (fun ls hl => ?_)
  refine lv_iload_n hx hb dX5_ant_167 rfl (lv_at hl 4 rfl) ?_
  refine lv_iload hx hb dX5_ant_168 (lv_at hl 6 rfl) ?_
  obtain ⟨v55, e54, hF⟩ := ob_s hF
  refine m_callS (As := [.int x5]) (rest := [.int x3]) X hp (w_X5_goesX e54) q1762 q1763 q144 q1764 1 rfl ds_X5_goesX ⟨Nat.le_of_ble_eq_true rfl, Nat.le_of_ble_eq_true rfl⟩ hl.1 rfl (Nat.le_of_ble_eq_true rfl) dX5_ant_170 ⟨Nat.le_refl 0, Nat.le_refl 0⟩ (fun H locs hp => ?_)
  refine lv_iadd hx hb dX5_ant_173 ?_
  refine lv_topi (fun v56 ev57 => ?_)
  have hF := nm_s hF ev57
  refine lv_istore_n (lv' := [(3, .int v56), (7, .int y0), (0, .ref x0), (1, .int x1), (2, .int x2), (4, .int x4), (5, .int x5), (6, .int x6), (8, .int x8)]) hx hb dX5_ant_174 rfl hl (by decide) rfl (fun ls hl => ?_)
  refine lv_iload hx hb dX5_ant_175 (lv_at hl 5 rfl) ?_
  refine lv_iload hx hb dX5_ant_177 (lv_at hl 6 rfl) ?_
  obtain ⟨v59, e58, hF⟩ := ob_s hF
  refine m_callS (As := [.int x5]) (rest := [.int x4]) X hp (w_X5_goesY e58) q1765 q1766 q144 q1767 1 rfl ds_X5_goesY ⟨Nat.le_of_ble_eq_true rfl, Nat.le_of_ble_eq_true rfl⟩ hl.1 rfl (Nat.le_of_ble_eq_true rfl) dX5_ant_179 ⟨Nat.le_refl 0, Nat.le_refl 0⟩ (fun H locs hp => ?_)
  refine lv_iadd hx hb dX5_ant_182 ?_
  refine lv_topi (fun v60 ev61 => ?_)
  have hF := nm_s hF ev61
  refine lv_istore (lv' := [(4, .int v60), (3, .int v56), (7, .int y0), (0, .ref x0), (1, .int x1), (2, .int x2), (5, .int x5), (6, .int x6), (8, .int x8)]) hx hb dX5_ant_183 hl (by decide) rfl (fun ls hl => ?_)
  obtain ⟨v62, ev63⟩ : ∃ y : Int32, y = x8 + (1 : Int32) := ⟨_, rfl⟩
  have hF := nm_s hF ev63
  refine lv_iinc (v := v62) (lv' := [(8, .int v62), (4, .int v60), (3, .int v56), (7, .int y0), (0, .ref x0), (1, .int x1), (2, .int x2), (5, .int x5), (6, .int x6)]) hx hb dX5_ant_185 hl (k := 8) rfl (by rw [ev63]; rfl) (by decide) rfl (fun ls hl => ?_)
  refine lv_goto (tgt := 63) hx hb dX5_ant_188 (by decide) ?_
  exact hk63 _ _ _ _ _ _ _ _ _ _ _ _ _ hp (lv_sub hl [4, 5, 6, 2, 1, 7, 8, 3, 0] rfl) hF
def fb_X5_ant_148 (S : mSh) (k63 : mMm → Nat → Int32 → Int32 → Int32 → Int32 → Int32 → Int32 → Int32 → Int32 → Option (Int32 × mMm)) (M : mMm) (x0 : Nat) (x1 : Int32) (x2 : Int32) (x3 : Int32) (x4 : Int32) (x5 : Int32) (x7 : Int32) (x8 : Int32) (y0 : Int32) (y1 : Int32) : Option (Int32 × mMm) := nm ((y1 + y0)) fun v51 => (if v51 ≤ x7 then (fb_X5_ant_165 S k63 M x0 x1 x2 x3 x4 x5 v51 x8 x7) else (fb_X5_ant_165 S k63 M x0 x1 x2 x3 x4 x5 v51 x8 v51))
theorem b_X5_ant_148 {r : Int32} {M' : mMm} (X : mCx D n0 P p m c cX5_ant 11 s args yX5_ant.cls meth (some .int)) (k63 : mMm → Nat → Int32 → Int32 → Int32 → Int32 → Int32 → Int32 → Int32 → Int32 → Option (Int32 × mMm)) (hk63 : ∀ (M : mMm) (x0 : Nat) (x1 : Int32) (x2 : Int32) (x3 : Int32) (x4 : Int32) (x5 : Int32) (x6 : Int32) (x7 : Int32) (x8 : Int32) (H : Heap) (locs : List Loc) (ls : Array Slot), mHp D n0 S M n s H locs → lv_has ls 11 [(0, .ref x0), (1, .int x1), (2, .int x2), (3, .int x3), (4, .int x4), (5, .int x5), (6, .int x6), (7, .int x7), (8, .int x8)] → k63 M x0 x1 x2 x3 x4 x5 x6 x7 x8 = some (r, M') → W p l e Rm_X5_ant s m args below meth c H locs 0 0 (MQ below (mQ D n0 (some (.int r)) S M' n) args s 0 0 (mA n0)) (F0 m 63 ls [])) : ∀ (M : mMm) (x0 : Nat) (x1 : Int32) (x2 : Int32) (x3 : Int32) (x4 : Int32) (x5 : Int32) (x7 : Int32) (x8 : Int32) (y0 : Int32) (y1 : Int32) (H : Heap) (locs : List Loc) (ls : Array Slot), mHp D n0 S M n s H locs → lv_has ls 11 [(0, .ref x0), (1, .int x1), (2, .int x2), (3, .int x3), (4, .int x4), (5, .int x5), (7, .int x7), (8, .int x8)] → fb_X5_ant_148 S k63 M x0 x1 x2 x3 x4 x5 x7 x8 y0 y1 = some (r, M') → W p l e Rm_X5_ant s m args below meth c H locs 0 0 (MQ below (mQ D n0 (some (.int r)) S M' n) args s 0 0 (mA n0)) (F0 m 148 ls [.int y0, .int y1]) := by
  have hx := X.1.1
  have hb := X.1.2.1
  have hown := X.1.2.2.2.1
  have hts := X.1.2.2.2.2
  intro M x0 x1 x2 x3 x4 x5 x7 x8 y0 y1 H locs ls hp hl hF
  unfold fb_X5_ant_148 at hF
  refine lv_iadd hx hb dX5_ant_148 ?_
  refine lv_topi (fun v51 ev52 => ?_)
  have hF := nm_s hF ev52
  refine lv_istore (lv' := [(6, .int v51), (0, .ref x0), (1, .int x1), (2, .int x2), (3, .int x3), (4, .int x4), (5, .int x5), (7, .int x7), (8, .int x8)]) hx hb dX5_ant_149 hl (by decide) rfl (fun ls hl => ?_)
  refine lv_iload hx hb dX5_ant_151 (lv_at hl 0 rfl) ?_
  refine lv_iload hx hb dX5_ant_153 (lv_at hl 7 rfl) ?_
  refine lv_icmp_le (tgt := 163) hx hb dX5_ant_155 (by decide) (fun c53 => ?_) (fun c53 => ?_)
  · have hF := if_p c53 hF
    refine lv_iload hx hb dX5_ant_163 (lv_at hl 7 rfl) ?_
    exact b_X5_ant_165 X _ hk63 _ _ _ _ _ _ _ _ _ _ _ _ _ hp (lv_sub hl [1, 2, 3, 4, 5, 6, 0, 8] rfl) hF
  · have hF := if_n c53 hF
    refine lv_iload hx hb dX5_ant_158 (lv_at hl 0 rfl) ?_
    refine lv_goto (tgt := 165) hx hb dX5_ant_160 (by decide) ?_
    exact b_X5_ant_165 X _ hk63 _ _ _ _ _ _ _ _ _ _ _ _ _ hp (lv_sub hl [1, 2, 3, 4, 5, 6, 0, 8] rfl) hF
def fb_X5_ant_115 (S : mSh) (k63 : mMm → Nat → Int32 → Int32 → Int32 → Int32 → Int32 → Int32 → Int32 → Int32 → Option (Int32 × mMm)) (M : mMm) (x0 : Nat) (x1 : Int32) (x2 : Int32) (x3 : Int32) (x4 : Int32) (x6 : Int32) (x7 : Int32) (x8 : Int32) (x9 : Int32) (x10 : Int32) (y0 : Int32) (y1 : Int32) : Option (Int32 × mMm) := ob (f_X5_turned y1 y0) fun v41 => ob (rR S M x0 6 34) fun v42 => ob (rR S M x0 6 34) fun v44 => ob (aI S M v44 100 x9) fun v46 => ob (wA S M v42 100 x9 (.int ((1 : Int32) - v46))) fun M48 => (if x10 = 0 then (fb_X5_ant_148 S k63 M48 x0 x1 x2 x3 x4 v41 x7 x8 (1 : Int32) x6) else (fb_X5_ant_148 S k63 M48 x0 x1 x2 x3 x4 v41 x7 x8 (-1 : Int32) x6))
theorem b_X5_ant_115 {r : Int32} {M' : mMm} (X : mCx D n0 P p m c cX5_ant 11 s args yX5_ant.cls meth (some .int)) (k63 : mMm → Nat → Int32 → Int32 → Int32 → Int32 → Int32 → Int32 → Int32 → Int32 → Option (Int32 × mMm)) (hk63 : ∀ (M : mMm) (x0 : Nat) (x1 : Int32) (x2 : Int32) (x3 : Int32) (x4 : Int32) (x5 : Int32) (x6 : Int32) (x7 : Int32) (x8 : Int32) (H : Heap) (locs : List Loc) (ls : Array Slot), mHp D n0 S M n s H locs → lv_has ls 11 [(0, .ref x0), (1, .int x1), (2, .int x2), (3, .int x3), (4, .int x4), (5, .int x5), (6, .int x6), (7, .int x7), (8, .int x8)] → k63 M x0 x1 x2 x3 x4 x5 x6 x7 x8 = some (r, M') → W p l e Rm_X5_ant s m args below meth c H locs 0 0 (MQ below (mQ D n0 (some (.int r)) S M' n) args s 0 0 (mA n0)) (F0 m 63 ls [])) : ∀ (M : mMm) (x0 : Nat) (x1 : Int32) (x2 : Int32) (x3 : Int32) (x4 : Int32) (x6 : Int32) (x7 : Int32) (x8 : Int32) (x9 : Int32) (x10 : Int32) (y0 : Int32) (y1 : Int32) (H : Heap) (locs : List Loc) (ls : Array Slot), mHp D n0 S M n s H locs → lv_has ls 11 [(0, .ref x0), (1, .int x1), (2, .int x2), (3, .int x3), (4, .int x4), (6, .int x6), (7, .int x7), (8, .int x8), (9, .int x9), (10, .int x10)] → fb_X5_ant_115 S k63 M x0 x1 x2 x3 x4 x6 x7 x8 x9 x10 y0 y1 = some (r, M') → W p l e Rm_X5_ant s m args below meth c H locs 0 0 (MQ below (mQ D n0 (some (.int r)) S M' n) args s 0 0 (mA n0)) (F0 m 115 ls [.int y0, .int y1]) := by
  have hx := X.1.1
  have hb := X.1.2.1
  have hown := X.1.2.2.2.1
  have hts := X.1.2.2.2.2
  intro M x0 x1 x2 x3 x4 x6 x7 x8 x9 x10 y0 y1 H locs ls hp hl hF
  unfold fb_X5_ant_115 at hF
  obtain ⟨v41, e40, hF⟩ := ob_s hF
  refine m_callS (As := [.int y1, .int y0]) (rest := []) X hp (w_X5_turned e40) q1743 q1744 q144 q1745 2 rfl ds_X5_turned ⟨Nat.le_of_ble_eq_true rfl, Nat.le_of_ble_eq_true rfl⟩ hl.1 rfl (Nat.le_of_ble_eq_true rfl) dX5_ant_115 ⟨Nat.le_refl 0, Nat.le_refl 0⟩ (fun H locs hp => ?_)
  refine lv_istore (lv' := [(5, .int v41), (0, .ref x0), (1, .int x1), (2, .int x2), (3, .int x3), (4, .int x4), (6, .int x6), (7, .int x7), (8, .int x8), (9, .int x9), (10, .int x10)]) hx hb dX5_ant_118 hl (by decide) rfl (fun ls hl => ?_)
  refine lv_aload_n hx hb dX5_ant_120 rfl (lv_at hl 1 rfl) ?_
  obtain ⟨v42, e43, hF⟩ := ob_s hF
  refine m_getR X hp e43 kX5 (Nat.le_of_ble_eq_true rfl) q1493 dX5_ant_121 ?_
  refine lv_iload hx hb dX5_ant_124 (lv_at hl 9 rfl) ?_
  refine lv_iconst (v := 1) hx hb dX5_ant_126 (by decide) ?_
  refine lv_aload_n hx hb dX5_ant_127 rfl (lv_at hl 1 rfl) ?_
  obtain ⟨v44, e45, hF⟩ := ob_s hF
  refine m_getR X hp e45 kX5 (Nat.le_of_ble_eq_true rfl) q1493 dX5_ant_128 ?_
  refine lv_iload hx hb dX5_ant_131 (lv_at hl 9 rfl) ?_
  obtain ⟨v46, e47, hF⟩ := ob_s hF
  refine m_iaI X hp e47 dX5_ant_133 ?_
  refine lv_isub hx hb dX5_ant_134 ?_
  obtain ⟨M48, e49, hF⟩ := ob_s hF
  refine m_iaW X hp e49 dX5_ant_135 (fun H locs hp => ?_)
  refine lv_iload hx hb dX5_ant_136 (lv_at hl 6 rfl) ?_
  refine lv_iload hx hb dX5_ant_138 (lv_at hl 10 rfl) ?_
  refine lv_if_eq (tgt := 147) hx hb dX5_ant_140 (by decide) (fun c50 => ?_) (fun c50 => ?_)
  · have hF := if_p c50 hF
    refine lv_iconst (v := 1) hx hb dX5_ant_147 (by decide) ?_
    exact b_X5_ant_148 X _ hk63 _ _ _ _ _ _ _ _ _ _ _ _ _ _ hp (lv_sub hl [1, 2, 3, 4, 5, 0, 7, 8] rfl) hF
  · have hF := if_n c50 hF
    refine lv_iconst (v := -1) hx hb dX5_ant_143 (by decide) ?_
    refine lv_goto (tgt := 148) hx hb dX5_ant_144 (by decide) ?_
    exact b_X5_ant_148 X _ hk63 _ _ _ _ _ _ _ _ _ _ _ _ _ _ hp (lv_sub hl [1, 2, 3, 4, 5, 0, 7, 8] rfl) hF
def fb_X5_ant_101 (S : mSh) (k63 : mMm → Nat → Int32 → Int32 → Int32 → Int32 → Int32 → Int32 → Int32 → Int32 → Option (Int32 × mMm)) (M : mMm) (x0 : Nat) (x1 : Int32) (x2 : Int32) (x3 : Int32) (x4 : Int32) (x5 : Int32) (x6 : Int32) (x7 : Int32) (x8 : Int32) (x9 : Int32) (y0 : Int32) : Option (Int32 × mMm) := (if y0 = 0 then (fb_X5_ant_115 S k63 M x0 x1 x2 x3 x4 x6 x7 x8 x9 y0 (1 : Int32) x5) else (fb_X5_ant_115 S k63 M x0 x1 x2 x3 x4 x6 x7 x8 x9 y0 (0 : Int32) x5))
theorem b_X5_ant_101 {r : Int32} {M' : mMm} (X : mCx D n0 P p m c cX5_ant 11 s args yX5_ant.cls meth (some .int)) (k63 : mMm → Nat → Int32 → Int32 → Int32 → Int32 → Int32 → Int32 → Int32 → Int32 → Option (Int32 × mMm)) (hk63 : ∀ (M : mMm) (x0 : Nat) (x1 : Int32) (x2 : Int32) (x3 : Int32) (x4 : Int32) (x5 : Int32) (x6 : Int32) (x7 : Int32) (x8 : Int32) (H : Heap) (locs : List Loc) (ls : Array Slot), mHp D n0 S M n s H locs → lv_has ls 11 [(0, .ref x0), (1, .int x1), (2, .int x2), (3, .int x3), (4, .int x4), (5, .int x5), (6, .int x6), (7, .int x7), (8, .int x8)] → k63 M x0 x1 x2 x3 x4 x5 x6 x7 x8 = some (r, M') → W p l e Rm_X5_ant s m args below meth c H locs 0 0 (MQ below (mQ D n0 (some (.int r)) S M' n) args s 0 0 (mA n0)) (F0 m 63 ls [])) : ∀ (M : mMm) (x0 : Nat) (x1 : Int32) (x2 : Int32) (x3 : Int32) (x4 : Int32) (x5 : Int32) (x6 : Int32) (x7 : Int32) (x8 : Int32) (x9 : Int32) (y0 : Int32) (H : Heap) (locs : List Loc) (ls : Array Slot), mHp D n0 S M n s H locs → lv_has ls 11 [(0, .ref x0), (1, .int x1), (2, .int x2), (3, .int x3), (4, .int x4), (5, .int x5), (6, .int x6), (7, .int x7), (8, .int x8), (9, .int x9)] → fb_X5_ant_101 S k63 M x0 x1 x2 x3 x4 x5 x6 x7 x8 x9 y0 = some (r, M') → W p l e Rm_X5_ant s m args below meth c H locs 0 0 (MQ below (mQ D n0 (some (.int r)) S M' n) args s 0 0 (mA n0)) (F0 m 101 ls [.int y0]) := by
  have hx := X.1.1
  have hb := X.1.2.1
  have hown := X.1.2.2.2.1
  have hts := X.1.2.2.2.2
  intro M x0 x1 x2 x3 x4 x5 x6 x7 x8 x9 y0 H locs ls hp hl hF
  unfold fb_X5_ant_101 at hF
  refine lv_istore (lv' := [(10, .int y0), (0, .ref x0), (1, .int x1), (2, .int x2), (3, .int x3), (4, .int x4), (5, .int x5), (6, .int x6), (7, .int x7), (8, .int x8), (9, .int x9)]) hx hb dX5_ant_101 hl (by decide) rfl (fun ls hl => ?_)
  refine lv_iload hx hb dX5_ant_103 (lv_at hl 6 rfl) ?_
  refine lv_iload hx hb dX5_ant_105 (lv_at hl 0 rfl) ?_
  refine lv_if_eq (tgt := 114) hx hb dX5_ant_107 (by decide) (fun c39 => ?_) (fun c39 => ?_)
  · have hF := if_p c39 hF
    refine lv_iconst (v := 1) hx hb dX5_ant_114 (by decide) ?_
    exact b_X5_ant_115 X _ hk63 _ _ _ _ _ _ _ _ _ _ _ _ _ _ _ _ hp (lv_sub hl [1, 2, 3, 4, 5, 7, 8, 9, 10, 0] rfl) hF
  · have hF := if_n c39 hF
    refine lv_iconst (v := 0) hx hb dX5_ant_110 (by decide) ?_
    refine lv_goto (tgt := 115) hx hb dX5_ant_111 (by decide) ?_
    exact b_X5_ant_115 X _ hk63 _ _ _ _ _ _ _ _ _ _ _ _ _ _ _ _ hp (lv_sub hl [1, 2, 3, 4, 5, 7, 8, 9, 10, 0] rfl) hF
def fb_X5_ant_63 (S : mSh) : Nat → mMm → Nat → Int32 → Int32 → Int32 → Int32 → Int32 → Int32 → Int32 → Int32 → Option (Int32 × mMm)
  | 0, _, _, _, _, _, _, _, _, _, _ => none
  | t + 1, M, x0, x1, x2, x3, x4, x5, x6, x7, x8 => (if x1 ≤ x8 then (if x2 = 0 then some (x6, M) else (if x2 = (1 : Int32) then some (x3, M) else (if x2 = (2 : Int32) then some (x4, M) else some (x7, M)))) else nm ((((128 : Int32) * (x4 &&& (127 : Int32))) + (x3 &&& (127 : Int32)))) fun v32 => ob (rR S M x0 6 34) fun v34 => ob (aI S M v34 100 v32) fun v36 => (if v36 = (1 : Int32) then (fb_X5_ant_101 S (fb_X5_ant_63 S t) M x0 x1 x2 x3 x4 x5 x6 x7 x8 v32 (1 : Int32)) else (fb_X5_ant_101 S (fb_X5_ant_63 S t) M x0 x1 x2 x3 x4 x5 x6 x7 x8 v32 (0 : Int32))))
theorem b_X5_ant_63 {r : Int32} {M' : mMm} (X : mCx D n0 P p m c cX5_ant 11 s args yX5_ant.cls meth (some .int)) : ∀ t : Nat, ∀ (M : mMm) (x0 : Nat) (x1 : Int32) (x2 : Int32) (x3 : Int32) (x4 : Int32) (x5 : Int32) (x6 : Int32) (x7 : Int32) (x8 : Int32) (H : Heap) (locs : List Loc) (ls : Array Slot), mHp D n0 S M n s H locs → lv_has ls 11 [(0, .ref x0), (1, .int x1), (2, .int x2), (3, .int x3), (4, .int x4), (5, .int x5), (6, .int x6), (7, .int x7), (8, .int x8)] → fb_X5_ant_63 S t M x0 x1 x2 x3 x4 x5 x6 x7 x8 = some (r, M') → W p l e Rm_X5_ant s m args below meth c H locs 0 0 (MQ below (mQ D n0 (some (.int r)) S M' n) args s 0 0 (mA n0)) (F0 m 63 ls []) := by
  have hx := X.1.1
  have hb := X.1.2.1
  have hown := X.1.2.2.2.1
  have hts := X.1.2.2.2.2
  intro t
  induction t with
  | zero =>
    intro M x0 x1 x2 x3 x4 x5 x6 x7 x8 H locs ls hp hl hF
    have hF : none = some (r, M') := hF
    cases hF
  | succ t ih =>
    intro M x0 x1 x2 x3 x4 x5 x6 x7 x8 H locs ls hp hl hF
    rw [fb_X5_ant_63] at hF
    refine lv_iload hx hb dX5_ant_63 (lv_at hl 8 rfl) ?_
    refine lv_iload_n hx hb dX5_ant_65 rfl (lv_at hl 1 rfl) ?_
    refine lv_icmp_ge (tgt := 191) hx hb dX5_ant_66 (by decide) (fun c28 => ?_) (fun c28 => ?_)
    · have hF := if_p c28 hF
      refine lv_iload_n hx hb dX5_ant_191 rfl (lv_at hl 2 rfl) ?_
      refine lv_if_ne (tgt := 200) hx hb dX5_ant_192 (by decide) (fun c29 => ?_) (fun c29 => ?_)
      · have hF := if_n c29 hF
        refine lv_iload_n hx hb dX5_ant_200 rfl (lv_at hl 2 rfl) ?_
        refine lv_iconst (v := 1) hx hb dX5_ant_201 (by decide) ?_
        refine lv_icmp_ne (tgt := 209) hx hb dX5_ant_202 (by decide) (fun c30 => ?_) (fun c30 => ?_)
        · have hF := if_n c30 hF
          refine lv_iload_n hx hb dX5_ant_209 rfl (lv_at hl 2 rfl) ?_
          refine lv_iconst (v := 2) hx hb dX5_ant_210 (by decide) ?_
          refine lv_icmp_ne (tgt := 219) hx hb dX5_ant_211 (by decide) (fun c31 => ?_) (fun c31 => ?_)
          · have hF := if_n c31 hF
            refine lv_iload hx hb dX5_ant_219 (lv_at hl 7 rfl) ?_
            cases hF
            exact m_iret X hp dX5_ant_221
          · have hF := if_p c31 hF
            refine lv_iload hx hb dX5_ant_214 (lv_at hl 4 rfl) ?_
            refine lv_goto (tgt := 221) hx hb dX5_ant_216 (by decide) ?_
            cases hF
            exact m_iret X hp dX5_ant_221
        · have hF := if_p c30 hF
          refine lv_iload_n hx hb dX5_ant_205 rfl (lv_at hl 3 rfl) ?_
          refine lv_goto (tgt := 221) hx hb dX5_ant_206 (by decide) ?_
          cases hF
          exact m_iret X hp dX5_ant_221
      · have hF := if_p c29 hF
        refine lv_iload hx hb dX5_ant_195 (lv_at hl 6 rfl) ?_
        refine lv_goto (tgt := 221) hx hb dX5_ant_197 (by decide) ?_
        cases hF
        exact m_iret X hp dX5_ant_221
    · have hF := if_n c28 hF
      refine lv_sipush (v := 128) hx hb dX5_ant_69 (by decide) ?_
      refine lv_iload hx hb dX5_ant_72 (lv_at hl 4 rfl) ?_
      refine lv_bipush (v := 127) hx hb dX5_ant_74 (by decide) ?_
      refine lv_iand hx hb dX5_ant_76 ?_
      refine lv_imul hx hb dX5_ant_77 ?_
      refine lv_iload_n hx hb dX5_ant_78 rfl (lv_at hl 3 rfl) ?_
      refine lv_bipush (v := 127) hx hb dX5_ant_79 (by decide) ?_
      refine lv_iand hx hb dX5_ant_81 ?_
      refine lv_iadd hx hb dX5_ant_82 ?_
      refine lv_topi (fun v32 ev33 => ?_)
      have hF := nm_s hF ev33
      refine lv_istore (lv' := [(9, .int v32), (0, .ref x0), (1, .int x1), (2, .int x2), (3, .int x3), (4, .int x4), (5, .int x5), (6, .int x6), (7, .int x7), (8, .int x8)]) hx hb dX5_ant_83 hl (by decide) rfl (fun ls hl => ?_)
      refine lv_aload_n hx hb dX5_ant_85 rfl (lv_at hl 1 rfl) ?_
      obtain ⟨v34, e35, hF⟩ := ob_s hF
      refine m_getR X hp e35 kX5 (Nat.le_of_ble_eq_true rfl) q1493 dX5_ant_86 ?_
      refine lv_iload hx hb dX5_ant_89 (lv_at hl 0 rfl) ?_
      obtain ⟨v36, e37, hF⟩ := ob_s hF
      refine m_iaI X hp e37 dX5_ant_91 ?_
      refine lv_iconst (v := 1) hx hb dX5_ant_92 (by decide) ?_
      refine lv_icmp_ne (tgt := 100) hx hb dX5_ant_93 (by decide) (fun c38 => ?_) (fun c38 => ?_)
      · have hF := if_n c38 hF
        refine lv_iconst (v := 0) hx hb dX5_ant_100 (by decide) ?_
        exact b_X5_ant_101 X _ ih _ _ _ _ _ _ _ _ _ _ _ _ _ _ _ hp (lv_sub hl [1, 2, 3, 4, 5, 6, 7, 8, 9, 0] rfl) hF
      · have hF := if_p c38 hF
        refine lv_iconst (v := 1) hx hb dX5_ant_96 (by decide) ?_
        refine lv_goto (tgt := 101) hx hb dX5_ant_97 (by decide) ?_
        exact b_X5_ant_101 X _ ih _ _ _ _ _ _ _ _ _ _ _ _ _ _ _ hp (lv_sub hl [1, 2, 3, 4, 5, 6, 7, 8, 9, 0] rfl) hF
def fb_X5_ant_26 (S : mSh) : Nat → mMm → Nat → Int32 → Int32 → Int32 → Option (Int32 × mMm)
  | 0, _, _, _, _, _ => none
  | t + 1, M, x0, x1, x2, x3 => (if (16384 : Int32) ≤ x3 then nm ((0 : Int32)) fun v10 => nm ((0 : Int32)) fun v12 => nm ((0 : Int32)) fun v14 => nm ((0 : Int32)) fun v16 => nm ((0 : Int32)) fun v18 => nm ((0 : Int32)) fun v20 => (fb_X5_ant_63 S FU M x0 x1 x2 v10 v12 v14 v16 v18 v20) else ob (rR S M x0 6 34) fun v22 => ob (wA S M v22 100 x3 (.int (0 : Int32))) fun M24 => nm (x3 + (1 : Int32)) fun v26 => (fb_X5_ant_26 S t M24 x0 x1 x2 v26))
theorem b_X5_ant_26 {r : Int32} {M' : mMm} (X : mCx D n0 P p m c cX5_ant 11 s args yX5_ant.cls meth (some .int)) : ∀ t : Nat, ∀ (M : mMm) (x0 : Nat) (x1 : Int32) (x2 : Int32) (x3 : Int32) (H : Heap) (locs : List Loc) (ls : Array Slot), mHp D n0 S M n s H locs → lv_has ls 11 [(0, .ref x0), (1, .int x1), (2, .int x2), (3, .int x3)] → fb_X5_ant_26 S t M x0 x1 x2 x3 = some (r, M') → W p l e Rm_X5_ant s m args below meth c H locs 0 0 (MQ below (mQ D n0 (some (.int r)) S M' n) args s 0 0 (mA n0)) (F0 m 26 ls []) := by
  have hx := X.1.1
  have hb := X.1.2.1
  have hown := X.1.2.2.2.1
  have hts := X.1.2.2.2.2
  intro t
  induction t with
  | zero =>
    intro M x0 x1 x2 x3 H locs ls hp hl hF
    have hF : none = some (r, M') := hF
    cases hF
  | succ t ih =>
    intro M x0 x1 x2 x3 H locs ls hp hl hF
    rw [fb_X5_ant_26] at hF
    refine lv_iload_n hx hb dX5_ant_26 rfl (lv_at hl 3 rfl) ?_
    refine lv_sipush (v := 16384) hx hb dX5_ant_27 (by decide) ?_
    refine lv_icmp_ge (tgt := 46) hx hb dX5_ant_30 (by decide) (fun c9 => ?_) (fun c9 => ?_)
    · have hF := if_p c9 hF
      refine lv_iconst (v := 0) hx hb dX5_ant_46 (by decide) ?_
      refine lv_topi (fun v10 ev11 => ?_)
      have hF := nm_s hF ev11
      refine lv_istore_n (lv' := [(3, .int v10), (0, .ref x0), (1, .int x1), (2, .int x2)]) hx hb dX5_ant_47 rfl hl (by decide) rfl (fun ls hl => ?_)
      refine lv_iconst (v := 0) hx hb dX5_ant_48 (by decide) ?_
      refine lv_topi (fun v12 ev13 => ?_)
      have hF := nm_s hF ev13
      refine lv_istore (lv' := [(4, .int v12), (3, .int v10), (0, .ref x0), (1, .int x1), (2, .int x2)]) hx hb dX5_ant_49 hl (by decide) rfl (fun ls hl => ?_)
      refine lv_iconst (v := 0) hx hb dX5_ant_51 (by decide) ?_
      refine lv_topi (fun v14 ev15 => ?_)
      have hF := nm_s hF ev15
      refine lv_istore (lv' := [(5, .int v14), (4, .int v12), (3, .int v10), (0, .ref x0), (1, .int x1), (2, .int x2)]) hx hb dX5_ant_52 hl (by decide) rfl (fun ls hl => ?_)
      refine lv_iconst (v := 0) hx hb dX5_ant_54 (by decide) ?_
      refine lv_topi (fun v16 ev17 => ?_)
      have hF := nm_s hF ev17
      refine lv_istore (lv' := [(6, .int v16), (5, .int v14), (4, .int v12), (3, .int v10), (0, .ref x0), (1, .int x1), (2, .int x2)]) hx hb dX5_ant_55 hl (by decide) rfl (fun ls hl => ?_)
      refine lv_iconst (v := 0) hx hb dX5_ant_57 (by decide) ?_
      refine lv_topi (fun v18 ev19 => ?_)
      have hF := nm_s hF ev19
      refine lv_istore (lv' := [(7, .int v18), (6, .int v16), (5, .int v14), (4, .int v12), (3, .int v10), (0, .ref x0), (1, .int x1), (2, .int x2)]) hx hb dX5_ant_58 hl (by decide) rfl (fun ls hl => ?_)
      refine lv_iconst (v := 0) hx hb dX5_ant_60 (by decide) ?_
      refine lv_topi (fun v20 ev21 => ?_)
      have hF := nm_s hF ev21
      refine lv_istore (lv' := [(8, .int v20), (7, .int v18), (6, .int v16), (5, .int v14), (4, .int v12), (3, .int v10), (0, .ref x0), (1, .int x1), (2, .int x2)]) hx hb dX5_ant_61 hl (by decide) rfl (fun ls hl => ?_)
      exact b_X5_ant_63 X _ _ _ _ _ _ _ _ _ _ _ _ _ _ hp (lv_sub hl [6, 7, 8, 5, 4, 3, 2, 1, 0] rfl) hF
    · have hF := if_n c9 hF
      refine lv_aload_n hx hb dX5_ant_33 rfl (lv_at hl 0 rfl) ?_
      obtain ⟨v22, e23, hF⟩ := ob_s hF
      refine m_getR X hp e23 kX5 (Nat.le_of_ble_eq_true rfl) q1493 dX5_ant_34 ?_
      refine lv_iload_n hx hb dX5_ant_37 rfl (lv_at hl 3 rfl) ?_
      refine lv_iconst (v := 0) hx hb dX5_ant_38 (by decide) ?_
      obtain ⟨M24, e25, hF⟩ := ob_s hF
      refine m_iaW X hp e25 dX5_ant_39 (fun H locs hp => ?_)
      obtain ⟨v26, ev27⟩ : ∃ y : Int32, y = x3 + (1 : Int32) := ⟨_, rfl⟩
      have hF := nm_s hF ev27
      refine lv_iinc (v := v26) (lv' := [(3, .int v26), (0, .ref x0), (1, .int x1), (2, .int x2)]) hx hb dX5_ant_40 hl (k := 3) rfl (by rw [ev27]; rfl) (by decide) rfl (fun ls hl => ?_)
      refine lv_goto (tgt := 26) hx hb dX5_ant_43 (by decide) ?_
      exact ih _ _ _ _ _ _ _ _ hp (lv_sub hl [1, 2, 3, 0] rfl) hF
def f_X5_ant (S : mSh) (M : mMm) (x0 : Nat) (x1 : Int32) (x2 : Int32) : Option (Int32 × mMm) := ob (f_X5_within x1 (0 : Int32) (2000 : Int32)) fun v2 => (if v2 = 0 then some ((-10000 : Int32), M) else ob (f_X5_within x2 (0 : Int32) (3 : Int32)) fun v5 => (if v5 = 0 then some ((-10000 : Int32), M) else nm ((0 : Int32)) fun v7 => (fb_X5_ant_26 S FU M x0 x1 x2 v7)))
theorem w_X5_ant {x0 : Nat} {x1 : Int32} {x2 : Int32} {r : Int32} {M' : mMm} (hF : f_X5_ant S M x0 x1 x2 = some (r, M')) : mCt l D n0 P yX5_ant cX5_ant 11 (some .int) 1 22 0 0 [.ref x0, .int x1, .int x2] S M n (some (.int r)) S M' n := by
  refine m_ofW (by decide) (Nat.le_of_ble_eq_true rfl) (fun p e s m below meth c X hnm hp ls hl => ?_)
  have hx := X.1.1
  have hb := X.1.2.1
  have hown := X.1.2.2.2.1
  have hts := X.1.2.2.2.2
  have hl : lv_has ls 11 [(0, .ref x0), (1, .int x1), (2, .int x2)] := hl
  unfold f_X5_ant at hF
  refine lv_iload_n hx hb dX5_ant_0 rfl (lv_at hl 1 rfl) ?_
  refine lv_iconst (v := 0) hx hb dX5_ant_1 (by decide) ?_
  refine lv_sipush (v := 2000) hx hb dX5_ant_2 (by decide) ?_
  obtain ⟨v2, e1, hF⟩ := ob_s hF
  refine m_callS (As := [.int x1, .int (0 : Int32), .int (2000 : Int32)]) (rest := []) X hp (w_X5_within e1) q1588 q1589 q144 q1590 3 rfl ds_X5_within ⟨Nat.le_of_ble_eq_true rfl, Nat.le_of_ble_eq_true rfl⟩ hl.1 rfl (Nat.le_of_ble_eq_true rfl) dX5_ant_5 ⟨Nat.le_refl 0, Nat.le_refl 0⟩ (fun H locs hp => ?_)
  refine lv_if_eq (tgt := 20) hx hb dX5_ant_8 (by decide) (fun c3 => ?_) (fun c3 => ?_)
  · have hF := if_p c3 hF
    refine lv_sipush (v := -10000) hx hb dX5_ant_20 (by decide) ?_
    cases hF
    exact m_iret X hp dX5_ant_23
  · have hF := if_n c3 hF
    refine lv_iload_n hx hb dX5_ant_11 rfl (lv_at hl 2 rfl) ?_
    refine lv_iconst (v := 0) hx hb dX5_ant_12 (by decide) ?_
    refine lv_iconst (v := 3) hx hb dX5_ant_13 (by decide) ?_
    obtain ⟨v5, e4, hF⟩ := ob_s hF
    refine m_callS (As := [.int x2, .int (0 : Int32), .int (3 : Int32)]) (rest := []) X hp (w_X5_within e4) q1588 q1589 q144 q1590 3 rfl ds_X5_within ⟨Nat.le_of_ble_eq_true rfl, Nat.le_of_ble_eq_true rfl⟩ hl.1 rfl (Nat.le_of_ble_eq_true rfl) dX5_ant_14 ⟨Nat.le_refl 0, Nat.le_refl 0⟩ (fun H locs hp => ?_)
    refine lv_if_ne (tgt := 24) hx hb dX5_ant_17 (by decide) (fun c6 => ?_) (fun c6 => ?_)
    · have hF := if_n c6 hF
      refine lv_iconst (v := 0) hx hb dX5_ant_24 (by decide) ?_
      refine lv_topi (fun v7 ev8 => ?_)
      have hF := nm_s hF ev8
      refine lv_istore_n (lv' := [(3, .int v7), (0, .ref x0), (1, .int x1), (2, .int x2)]) hx hb dX5_ant_25 rfl hl (by decide) rfl (fun ls hl => ?_)
      exact b_X5_ant_26 X _ _ _ _ _ _ _ _ _ hp (lv_sub hl [1, 2, 3, 0] rfl) hF
    · have hF := if_p c6 hF
      refine lv_sipush (v := -10000) hx hb dX5_ant_20 (by decide) ?_
      cases hF
      exact m_iret X hp dX5_ant_23
end
section
variable {l : Launch} {D : va_G} {n0 : Nat} {P : mP} {S : mSh} {M : mMm} {n : Nat} {p : Program} {e : Env} {s : State} {m : MethodId} {args : Array Value} {below : List Frame} {meth : Method} {c : Code}
abbrev Rm_X5_isIn : Room := { frames := 1, cells := 0, slots := 0, locals := 22 }
def f_X5_isIn (x0 : Int32) (x1 : Int32) : Option Int32 := ob (f_X5_within x0 (0 : Int32) (11 : Int32)) fun v2 => (if v2 = 0 then some (0 : Int32) else ob (f_X5_within x1 (0 : Int32) (11 : Int32)) fun v5 => (if v5 = 0 then some (0 : Int32) else some (1 : Int32)))
theorem w_X5_isIn {x0 : Int32} {x1 : Int32} {r : Int32} (hF : f_X5_isIn x0 x1 = some r) : mCt l D n0 P yX5_isIn cX5_isIn 2 (some .boolean) 1 22 0 0 [.int x0, .int x1] S M n (some (.int r)) S M n := by
  refine m_ofW (by decide) (Nat.le_of_ble_eq_true rfl) (fun p e s m below meth c X hnm hp ls hl => ?_)
  have hx := X.1.1
  have hb := X.1.2.1
  have hown := X.1.2.2.2.1
  have hts := X.1.2.2.2.2
  have hl : lv_has ls 2 [(0, .int x0), (1, .int x1)] := hl
  unfold f_X5_isIn at hF
  refine lv_iload_n hx hb dX5_isIn_0 rfl (lv_at hl 0 rfl) ?_
  refine lv_iconst (v := 0) hx hb dX5_isIn_1 (by decide) ?_
  refine lv_bipush (v := 11) hx hb dX5_isIn_2 (by decide) ?_
  obtain ⟨v2, e1, hF⟩ := ob_s hF
  refine m_callS (As := [.int x0, .int (0 : Int32), .int (11 : Int32)]) (rest := []) X hp (w_X5_within e1) q1588 q1589 q144 q1590 3 rfl ds_X5_within ⟨Nat.le_of_ble_eq_true rfl, Nat.le_of_ble_eq_true rfl⟩ hl.1 rfl (Nat.le_of_ble_eq_true rfl) dX5_isIn_4 ⟨Nat.le_refl 0, Nat.le_refl 0⟩ (fun H locs hp => ?_)
  refine lv_if_eq (tgt := 24) hx hb dX5_isIn_7 (by decide) (fun c3 => ?_) (fun c3 => ?_)
  · have hF := if_p c3 hF
    refine lv_iconst (v := 0) hx hb dX5_isIn_24 (by decide) ?_
    cases hF
    exact m_zret X hp rfl dX5_isIn_25
  · have hF := if_n c3 hF
    refine lv_iload_n hx hb dX5_isIn_10 rfl (lv_at hl 1 rfl) ?_
    refine lv_iconst (v := 0) hx hb dX5_isIn_11 (by decide) ?_
    refine lv_bipush (v := 11) hx hb dX5_isIn_12 (by decide) ?_
    obtain ⟨v5, e4, hF⟩ := ob_s hF
    refine m_callS (As := [.int x1, .int (0 : Int32), .int (11 : Int32)]) (rest := []) X hp (w_X5_within e4) q1588 q1589 q144 q1590 3 rfl ds_X5_within ⟨Nat.le_of_ble_eq_true rfl, Nat.le_of_ble_eq_true rfl⟩ hl.1 rfl (Nat.le_of_ble_eq_true rfl) dX5_isIn_14 ⟨Nat.le_refl 0, Nat.le_refl 0⟩ (fun H locs hp => ?_)
    refine lv_if_eq (tgt := 24) hx hb dX5_isIn_17 (by decide) (fun c6 => ?_) (fun c6 => ?_)
    · have hF := if_p c6 hF
      refine lv_iconst (v := 0) hx hb dX5_isIn_24 (by decide) ?_
      cases hF
      exact m_zret X hp rfl dX5_isIn_25
    · have hF := if_n c6 hF
      refine lv_iconst (v := 1) hx hb dX5_isIn_20 (by decide) ?_
      refine lv_goto (tgt := 25) hx hb dX5_isIn_21 (by decide) ?_
      cases hF
      exact m_zret X hp rfl dX5_isIn_25
end
section
variable {l : Launch} {D : va_G} {n0 : Nat} {P : mP} {S : mSh} {M : mMm} {n : Nat} {p : Program} {e : Env} {s : State} {m : MethodId} {args : Array Value} {below : List Frame} {meth : Method} {c : Code}
abbrev Rm_X5_place : Room := { frames := 0, cells := 0, slots := 0, locals := 0 }
def f_X5_place (x0 : Int32) (x1 : Int32) : Option Int32 := some (((12 : Int32) * x1) + x0)
theorem w_X5_place {x0 : Int32} {x1 : Int32} {r : Int32} (hF : f_X5_place x0 x1 = some r) : mCt l D n0 P yX5_place cX5_place 2 (some .int) 0 0 0 0 [.int x0, .int x1] S M n (some (.int r)) S M n := by
  refine m_ofW (by decide) (Nat.le_of_ble_eq_true rfl) (fun p e s m below meth c X hnm hp ls hl => ?_)
  have hx := X.1.1
  have hb := X.1.2.1
  have hown := X.1.2.2.2.1
  have hts := X.1.2.2.2.2
  have hl : lv_has ls 2 [(0, .int x0), (1, .int x1)] := hl
  unfold f_X5_place at hF
  refine lv_bipush (v := 12) hx hb dX5_place_0 (by decide) ?_
  refine lv_iload_n hx hb dX5_place_2 rfl (lv_at hl 1 rfl) ?_
  refine lv_imul hx hb dX5_place_3 ?_
  refine lv_iload_n hx hb dX5_place_4 rfl (lv_at hl 0 rfl) ?_
  refine lv_iadd hx hb dX5_place_5 ?_
  cases hF
  exact m_iret X hp dX5_place_6
end
section
variable {l : Launch} {D : va_G} {n0 : Nat} {P : mP} {S : mSh} {M : mMm} {n : Nat} {p : Program} {e : Env} {s : State} {m : MethodId} {args : Array Value} {below : List Frame} {meth : Method} {c : Code}
abbrev Rm_X5_besides : Room := { frames := 2, cells := 0, slots := 0, locals := 43 }
def fb_X5_besides_86 (S : mSh) (M : mMm) (k17 : Nat → Int32 → Int32 → Int32 → Option Int32) (x0 : Nat) (x1 : Int32) (x2 : Int32) (x3 : Int32) : Option Int32 := nm (x3 + (1 : Int32)) fun v25 => (k17 x0 x1 x2 v25)
theorem b_X5_besides_86 {r : Int32} (X : mCx D n0 P p m c cX5_besides 6 s args yX5_besides.cls meth (some .int)) (k17 : Nat → Int32 → Int32 → Int32 → Option Int32) (hk17 : ∀ (x0 : Nat) (x1 : Int32) (x2 : Int32) (x3 : Int32) (H : Heap) (locs : List Loc) (ls : Array Slot), mHp D n0 S M n s H locs → lv_has ls 6 [(0, .ref x0), (1, .int x1), (2, .int x2), (3, .int x3)] → k17 x0 x1 x2 x3 = some r → W p l e Rm_X5_besides s m args below meth c H locs 0 0 (MQ below (mQ D n0 (some (.int r)) S M n) args s 0 0 (mA n0)) (F0 m 17 ls [])) : ∀ (x0 : Nat) (x1 : Int32) (x2 : Int32) (x3 : Int32) (H : Heap) (locs : List Loc) (ls : Array Slot), mHp D n0 S M n s H locs → lv_has ls 6 [(0, .ref x0), (1, .int x1), (2, .int x2), (3, .int x3)] → fb_X5_besides_86 S M k17 x0 x1 x2 x3 = some r → W p l e Rm_X5_besides s m args below meth c H locs 0 0 (MQ below (mQ D n0 (some (.int r)) S M n) args s 0 0 (mA n0)) (F0 m 86 ls []) := by
  have hx := X.1.1
  have hb := X.1.2.1
  have hown := X.1.2.2.2.1
  have hts := X.1.2.2.2.2
  intro x0 x1 x2 x3 H locs ls hp hl hF
  unfold fb_X5_besides_86 at hF
  obtain ⟨v25, ev26⟩ : ∃ y : Int32, y = x3 + (1 : Int32) := ⟨_, rfl⟩
  have hF := nm_s hF ev26
  refine lv_iinc (v := v25) (lv' := [(3, .int v25), (0, .ref x0), (1, .int x1), (2, .int x2)]) hx hb dX5_besides_86 hl (k := 3) rfl (by rw [ev26]; rfl) (by decide) rfl (fun ls hl => ?_)
  refine lv_goto (tgt := 17) hx hb dX5_besides_89 (by decide) ?_
  exact hk17 _ _ _ _ _ _ _ hp (lv_sub hl [1, 2, 3, 0] rfl) hF
def fb_X5_besides_17 (S : mSh) (M : mMm) : Nat → Nat → Int32 → Int32 → Int32 → Option Int32
  | 0, _, _, _, _ => none
  | t + 1, x0, x1, x2, x3 => (if (9 : Int32) ≤ x3 then some x2 else nm ((((x1 - x1 / (12 : Int32) * (12 : Int32)) + (x3 - x3 / (3 : Int32) * (3 : Int32))) - (1 : Int32))) fun v5 => nm ((((x1 / (12 : Int32)) + (x3 / (3 : Int32))) - (1 : Int32))) fun v7 => ob (f_X5_isIn v5 v7) fun v10 => (if v10 = 0 then (fb_X5_besides_86 S M (fb_X5_besides_17 S M t) x0 x1 x2 x3) else ob (rR S M x0 6 37) fun v12 => ob (f_X5_place v5 v7) fun v15 => ob (aI S M v12 100 v15) fun v16 => (if x2 ≤ v16 then (fb_X5_besides_86 S M (fb_X5_besides_17 S M t) x0 x1 x2 x3) else ob (rR S M x0 6 37) fun v19 => ob (f_X5_place v5 v7) fun v22 => ob (aI S M v19 100 v22) fun v23 => (fb_X5_besides_86 S M (fb_X5_besides_17 S M t) x0 x1 v23 x3))))
theorem b_X5_besides_17 {r : Int32} (X : mCx D n0 P p m c cX5_besides 6 s args yX5_besides.cls meth (some .int)) : ∀ t : Nat, ∀ (x0 : Nat) (x1 : Int32) (x2 : Int32) (x3 : Int32) (H : Heap) (locs : List Loc) (ls : Array Slot), mHp D n0 S M n s H locs → lv_has ls 6 [(0, .ref x0), (1, .int x1), (2, .int x2), (3, .int x3)] → fb_X5_besides_17 S M t x0 x1 x2 x3 = some r → W p l e Rm_X5_besides s m args below meth c H locs 0 0 (MQ below (mQ D n0 (some (.int r)) S M n) args s 0 0 (mA n0)) (F0 m 17 ls []) := by
  have hx := X.1.1
  have hb := X.1.2.1
  have hown := X.1.2.2.2.1
  have hts := X.1.2.2.2.2
  intro t
  induction t with
  | zero =>
    intro x0 x1 x2 x3 H locs ls hp hl hF
    have hF : none = some r := hF
    cases hF
  | succ t ih =>
    intro x0 x1 x2 x3 H locs ls hp hl hF
    rw [fb_X5_besides_17] at hF
    refine lv_iload_n hx hb dX5_besides_17 rfl (lv_at hl 3 rfl) ?_
    refine lv_bipush (v := 9) hx hb dX5_besides_18 (by decide) ?_
    refine lv_icmp_ge (tgt := 92) hx hb dX5_besides_20 (by decide) (fun c4 => ?_) (fun c4 => ?_)
    · have hF := if_p c4 hF
      refine lv_iload_n hx hb dX5_besides_92 rfl (lv_at hl 2 rfl) ?_
      cases hF
      exact m_iret X hp dX5_besides_93
    · have hF := if_n c4 hF
      refine lv_iload_n hx hb dX5_besides_23 rfl (lv_at hl 1 rfl) ?_
      refine lv_bipush (v := 12) hx hb dX5_besides_24 (by decide) ?_
      refine lv_irem hx hb dX5_besides_26 (by decide) ?_
      refine lv_iload_n hx hb dX5_besides_27 rfl (lv_at hl 3 rfl) ?_
      refine lv_iconst (v := 3) hx hb dX5_besides_28 (by decide) ?_
      refine lv_irem hx hb dX5_besides_29 (by decide) ?_
      refine lv_iadd hx hb dX5_besides_30 ?_
      refine lv_iconst (v := 1) hx hb dX5_besides_31 (by decide) ?_
      refine lv_isub hx hb dX5_besides_32 ?_
      refine lv_topi (fun v5 ev6 => ?_)
      have hF := nm_s hF ev6
      refine lv_istore (lv' := [(4, .int v5), (0, .ref x0), (1, .int x1), (2, .int x2), (3, .int x3)]) hx hb dX5_besides_33 hl (by decide) rfl (fun ls hl => ?_)
      refine lv_iload_n hx hb dX5_besides_35 rfl (lv_at hl 2 rfl) ?_
      refine lv_bipush (v := 12) hx hb dX5_besides_36 (by decide) ?_
      refine lv_idiv hx hb dX5_besides_38 (by decide) ?_
      refine lv_iload_n hx hb dX5_besides_39 rfl (lv_at hl 4 rfl) ?_
      refine lv_iconst (v := 3) hx hb dX5_besides_40 (by decide) ?_
      refine lv_idiv hx hb dX5_besides_41 (by decide) ?_
      refine lv_iadd hx hb dX5_besides_42 ?_
      refine lv_iconst (v := 1) hx hb dX5_besides_43 (by decide) ?_
      refine lv_isub hx hb dX5_besides_44 ?_
      refine lv_topi (fun v7 ev8 => ?_)
      have hF := nm_s hF ev8
      refine lv_istore (lv' := [(5, .int v7), (4, .int v5), (0, .ref x0), (1, .int x1), (2, .int x2), (3, .int x3)]) hx hb dX5_besides_45 hl (by decide) rfl (fun ls hl => ?_)
      refine lv_iload hx hb dX5_besides_47 (lv_at hl 1 rfl) ?_
      refine lv_iload hx hb dX5_besides_49 (lv_at hl 0 rfl) ?_
      obtain ⟨v10, e9, hF⟩ := ob_s hF
      refine m_callS (As := [.int v5, .int v7]) (rest := []) X hp (w_X5_isIn e9) q1768 q1769 q144 q1770 2 rfl ds_X5_isIn ⟨Nat.le_of_ble_eq_true rfl, Nat.le_of_ble_eq_true rfl⟩ hl.1 rfl (Nat.le_of_ble_eq_true rfl) dX5_besides_51 ⟨Nat.le_refl 0, Nat.le_refl 0⟩ (fun H locs hp => ?_)
      refine lv_if_eq (tgt := 86) hx hb dX5_besides_54 (by decide) (fun c11 => ?_) (fun c11 => ?_)
      · have hF := if_p c11 hF
        exact b_X5_besides_86 X _ ih _ _ _ _ _ _ _ hp (lv_sub hl [2, 3, 4, 5] rfl) hF
      · have hF := if_n c11 hF
        refine lv_aload_n hx hb dX5_besides_57 rfl (lv_at hl 2 rfl) ?_
        obtain ⟨v12, e13, hF⟩ := ob_s hF
        refine m_getR X hp e13 kX5 (Nat.le_of_ble_eq_true rfl) q1496 dX5_besides_58 ?_
        refine lv_iload hx hb dX5_besides_61 (lv_at hl 1 rfl) ?_
        refine lv_iload hx hb dX5_besides_63 (lv_at hl 0 rfl) ?_
        obtain ⟨v15, e14, hF⟩ := ob_s hF
        refine m_callS (As := [.int v5, .int v7]) (rest := [.ref v12]) X hp (w_X5_place e14) q1708 q1709 q144 q1710 2 rfl ds_X5_place ⟨Nat.le_of_ble_eq_true rfl, Nat.le_of_ble_eq_true rfl⟩ hl.1 rfl (Nat.le_of_ble_eq_true rfl) dX5_besides_65 ⟨Nat.le_refl 0, Nat.le_refl 0⟩ (fun H locs hp => ?_)
        obtain ⟨v16, e17, hF⟩ := ob_s hF
        refine m_iaI X hp e17 dX5_besides_68 ?_
        refine lv_iload_n hx hb dX5_besides_69 rfl (lv_at hl 4 rfl) ?_
        refine lv_icmp_ge (tgt := 86) hx hb dX5_besides_70 (by decide) (fun c18 => ?_) (fun c18 => ?_)
        · have hF := if_p c18 hF
          exact b_X5_besides_86 X _ ih _ _ _ _ _ _ _ hp (lv_sub hl [2, 3, 4, 5] rfl) hF
        · have hF := if_n c18 hF
          refine lv_aload_n hx hb dX5_besides_73 rfl (lv_at hl 2 rfl) ?_
          obtain ⟨v19, e20, hF⟩ := ob_s hF
          refine m_getR X hp e20 kX5 (Nat.le_of_ble_eq_true rfl) q1496 dX5_besides_74 ?_
          refine lv_iload hx hb dX5_besides_77 (lv_at hl 1 rfl) ?_
          refine lv_iload hx hb dX5_besides_79 (lv_at hl 0 rfl) ?_
          obtain ⟨v22, e21, hF⟩ := ob_s hF
          refine m_callS (As := [.int v5, .int v7]) (rest := [.ref v19]) X hp (w_X5_place e21) q1708 q1709 q144 q1710 2 rfl ds_X5_place ⟨Nat.le_of_ble_eq_true rfl, Nat.le_of_ble_eq_true rfl⟩ hl.1 rfl (Nat.le_of_ble_eq_true rfl) dX5_besides_81 ⟨Nat.le_refl 0, Nat.le_refl 0⟩ (fun H locs hp => ?_)
          obtain ⟨v23, e24, hF⟩ := ob_s hF
          refine m_iaI X hp e24 dX5_besides_84 ?_
          refine lv_istore_n (lv' := [(2, .int v23), (5, .int v7), (4, .int v5), (0, .ref x0), (1, .int x1), (3, .int x3)]) hx hb dX5_besides_85 rfl hl (by decide) rfl (fun ls hl => ?_)
          exact b_X5_besides_86 X _ ih _ _ _ _ _ _ _ hp (lv_sub hl [3, 4, 0, 5] rfl) hF
def fb_X5_besides_14 (S : mSh) (M : mMm) (x0 : Nat) (x1 : Int32) (y0 : Int32) : Option Int32 := nm ((0 : Int32)) fun v2 => (fb_X5_besides_17 S M FU x0 x1 y0 v2)
theorem b_X5_besides_14 {r : Int32} (X : mCx D n0 P p m c cX5_besides 6 s args yX5_besides.cls meth (some .int)) : ∀ (x0 : Nat) (x1 : Int32) (y0 : Int32) (H : Heap) (locs : List Loc) (ls : Array Slot), mHp D n0 S M n s H locs → lv_has ls 6 [(0, .ref x0), (1, .int x1)] → fb_X5_besides_14 S M x0 x1 y0 = some r → W p l e Rm_X5_besides s m args below meth c H locs 0 0 (MQ below (mQ D n0 (some (.int r)) S M n) args s 0 0 (mA n0)) (F0 m 14 ls [.int y0]) := by
  have hx := X.1.1
  have hb := X.1.2.1
  have hown := X.1.2.2.2.1
  have hts := X.1.2.2.2.2
  intro x0 x1 y0 H locs ls hp hl hF
  unfold fb_X5_besides_14 at hF
  refine lv_istore_n (lv' := [(2, .int y0), (0, .ref x0), (1, .int x1)]) hx hb dX5_besides_14 rfl hl (by decide) rfl (fun ls hl => ?_)
  refine lv_iconst (v := 0) hx hb dX5_besides_15 (by decide) ?_
  refine lv_topi (fun v2 ev3 => ?_)
  have hF := nm_s hF ev3
  refine lv_istore_n (lv' := [(3, .int v2), (2, .int y0), (0, .ref x0), (1, .int x1)]) hx hb dX5_besides_16 rfl hl (by decide) rfl (fun ls hl => ?_)
  exact b_X5_besides_17 X _ _ _ _ _ _ _ _ hp (lv_sub hl [2, 3, 1, 0] rfl) hF
def f_X5_besides (S : mSh) (M : mMm) (x0 : Nat) (x1 : Int32) : Option Int32 := (if (x1 - x1 / (12 : Int32) * (12 : Int32)) = 0 then (fb_X5_besides_14 S M x0 x1 (0 : Int32)) else (fb_X5_besides_14 S M x0 x1 (9999 : Int32)))
theorem w_X5_besides {x0 : Nat} {x1 : Int32} {r : Int32} (hF : f_X5_besides S M x0 x1 = some r) : mCt l D n0 P yX5_besides cX5_besides 6 (some .int) 2 43 0 0 [.ref x0, .int x1] S M n (some (.int r)) S M n := by
  refine m_ofW (by decide) (Nat.le_of_ble_eq_true rfl) (fun p e s m below meth c X hnm hp ls hl => ?_)
  have hx := X.1.1
  have hb := X.1.2.1
  have hown := X.1.2.2.2.1
  have hts := X.1.2.2.2.2
  have hl : lv_has ls 6 [(0, .ref x0), (1, .int x1)] := hl
  unfold f_X5_besides at hF
  refine lv_iload_n hx hb dX5_besides_0 rfl (lv_at hl 1 rfl) ?_
  refine lv_bipush (v := 12) hx hb dX5_besides_1 (by decide) ?_
  refine lv_irem hx hb dX5_besides_3 (by decide) ?_
  refine lv_if_ne (tgt := 11) hx hb dX5_besides_4 (by decide) (fun c1 => ?_) (fun c1 => ?_)
  · have hF := if_n c1 hF
    refine lv_sipush (v := 9999) hx hb dX5_besides_11 (by decide) ?_
    exact b_X5_besides_14 X _ _ _ _ _ _ hp (lv_sub hl [0, 1] rfl) hF
  · have hF := if_p c1 hF
    refine lv_iconst (v := 0) hx hb dX5_besides_7 (by decide) ?_
    refine lv_goto (tgt := 14) hx hb dX5_besides_8 (by decide) ?_
    exact b_X5_besides_14 X _ _ _ _ _ _ hp (lv_sub hl [0, 1] rfl) hF
end
section
variable {l : Launch} {D : va_G} {n0 : Nat} {P : mP} {S : mSh} {M : mMm} {n : Nat} {p : Program} {e : Env} {s : State} {m : MethodId} {args : Array Value} {below : List Frame} {meth : Method} {c : Code}
abbrev Rm_X5_apart : Room := { frames := 3, cells := 0, slots := 0, locals := 68 }
def fb_X5_apart_99 (S : mSh) (k45 : mMm → Nat → Int32 → Int32 → Option (Int32 × mMm)) (M : mMm) (x0 : Nat) (x2 : Int32) (x3 : Int32) : Option (Int32 × mMm) := nm (x3 + (1 : Int32)) fun v46 => (k45 M x0 x2 v46)
theorem b_X5_apart_99 {r : Int32} {M' : mMm} (X : mCx D n0 P p m c cX5_apart 5 s args yX5_apart.cls meth (some .int)) (k45 : mMm → Nat → Int32 → Int32 → Option (Int32 × mMm)) (hk45 : ∀ (M : mMm) (x0 : Nat) (x2 : Int32) (x3 : Int32) (H : Heap) (locs : List Loc) (ls : Array Slot), mHp D n0 S M n s H locs → lv_has ls 5 [(0, .ref x0), (2, .int x2), (3, .int x3)] → k45 M x0 x2 x3 = some (r, M') → W p l e Rm_X5_apart s m args below meth c H locs 0 0 (MQ below (mQ D n0 (some (.int r)) S M' n) args s 0 0 (mA n0)) (F0 m 45 ls [])) : ∀ (M : mMm) (x0 : Nat) (x2 : Int32) (x3 : Int32) (H : Heap) (locs : List Loc) (ls : Array Slot), mHp D n0 S M n s H locs → lv_has ls 5 [(0, .ref x0), (2, .int x2), (3, .int x3)] → fb_X5_apart_99 S k45 M x0 x2 x3 = some (r, M') → W p l e Rm_X5_apart s m args below meth c H locs 0 0 (MQ below (mQ D n0 (some (.int r)) S M' n) args s 0 0 (mA n0)) (F0 m 99 ls []) := by
  have hx := X.1.1
  have hb := X.1.2.1
  have hown := X.1.2.2.2.1
  have hts := X.1.2.2.2.2
  intro M x0 x2 x3 H locs ls hp hl hF
  unfold fb_X5_apart_99 at hF
  obtain ⟨v46, ev47⟩ : ∃ y : Int32, y = x3 + (1 : Int32) := ⟨_, rfl⟩
  have hF := nm_s hF ev47
  refine lv_iinc (v := v46) (lv' := [(3, .int v46), (0, .ref x0), (2, .int x2)]) hx hb dX5_apart_99 hl (k := 2) rfl (by rw [ev47]; rfl) (by decide) rfl (fun ls hl => ?_)
  refine lv_goto (tgt := 45) hx hb dX5_apart_102 (by decide) ?_
  exact hk45 _ _ _ _ _ _ _ hp (lv_sub hl [1, 2, 0] rfl) hF
def fb_X5_apart_72 (S : mSh) (k45 : mMm → Nat → Int32 → Int32 → Option (Int32 × mMm)) (M : mMm) (x0 : Nat) (x2 : Int32) (x3 : Int32) (y0 : Int32) (y1 : Int32) : Option (Int32 × mMm) := nm ((y1 + y0)) fun v33 => ob (rR S M x0 6 37) fun v35 => ob (aI S M v35 100 x3) fun v37 => (if v33 < v37 then ob (rR S M x0 6 37) fun v40 => ob (wA S M v40 100 x3 (.int v33)) fun M42 => nm ((1 : Int32)) fun v44 => (fb_X5_apart_99 S k45 M42 x0 v44 x3) else (fb_X5_apart_99 S k45 M x0 x2 x3))
theorem b_X5_apart_72 {r : Int32} {M' : mMm} (X : mCx D n0 P p m c cX5_apart 5 s args yX5_apart.cls meth (some .int)) (k45 : mMm → Nat → Int32 → Int32 → Option (Int32 × mMm)) (hk45 : ∀ (M : mMm) (x0 : Nat) (x2 : Int32) (x3 : Int32) (H : Heap) (locs : List Loc) (ls : Array Slot), mHp D n0 S M n s H locs → lv_has ls 5 [(0, .ref x0), (2, .int x2), (3, .int x3)] → k45 M x0 x2 x3 = some (r, M') → W p l e Rm_X5_apart s m args below meth c H locs 0 0 (MQ below (mQ D n0 (some (.int r)) S M' n) args s 0 0 (mA n0)) (F0 m 45 ls [])) : ∀ (M : mMm) (x0 : Nat) (x2 : Int32) (x3 : Int32) (y0 : Int32) (y1 : Int32) (H : Heap) (locs : List Loc) (ls : Array Slot), mHp D n0 S M n s H locs → lv_has ls 5 [(0, .ref x0), (2, .int x2), (3, .int x3)] → fb_X5_apart_72 S k45 M x0 x2 x3 y0 y1 = some (r, M') → W p l e Rm_X5_apart s m args below meth c H locs 0 0 (MQ below (mQ D n0 (some (.int r)) S M' n) args s 0 0 (mA n0)) (F0 m 72 ls [.int y0, .int y1]) := by
  have hx := X.1.1
  have hb := X.1.2.1
  have hown := X.1.2.2.2.1
  have hts := X.1.2.2.2.2
  intro M x0 x2 x3 y0 y1 H locs ls hp hl hF
  unfold fb_X5_apart_72 at hF
  refine lv_iadd hx hb dX5_apart_72 ?_
  refine lv_topi (fun v33 ev34 => ?_)
  have hF := nm_s hF ev34
  refine lv_istore (lv' := [(4, .int v33), (0, .ref x0), (2, .int x2), (3, .int x3)]) hx hb dX5_apart_73 hl (by decide) rfl (fun ls hl => ?_)
  refine lv_iload hx hb dX5_apart_75 (lv_at hl 0 rfl) ?_
  refine lv_aload_n hx hb dX5_apart_77 rfl (lv_at hl 1 rfl) ?_
  obtain ⟨v35, e36, hF⟩ := ob_s hF
  refine m_getR X hp e36 kX5 (Nat.le_of_ble_eq_true rfl) q1496 dX5_apart_78 ?_
  refine lv_iload_n hx hb dX5_apart_81 rfl (lv_at hl 3 rfl) ?_
  obtain ⟨v37, e38, hF⟩ := ob_s hF
  refine m_iaI X hp e38 dX5_apart_82 ?_
  refine lv_icmp_lt (tgt := 89) hx hb dX5_apart_83 (by decide) (fun c39 => ?_) (fun c39 => ?_)
  · have hF := if_p c39 hF
    refine lv_aload_n hx hb dX5_apart_89 rfl (lv_at hl 1 rfl) ?_
    obtain ⟨v40, e41, hF⟩ := ob_s hF
    refine m_getR X hp e41 kX5 (Nat.le_of_ble_eq_true rfl) q1496 dX5_apart_90 ?_
    refine lv_iload_n hx hb dX5_apart_93 rfl (lv_at hl 3 rfl) ?_
    refine lv_iload hx hb dX5_apart_94 (lv_at hl 0 rfl) ?_
    obtain ⟨M42, e43, hF⟩ := ob_s hF
    refine m_iaW X hp e43 dX5_apart_96 (fun H locs hp => ?_)
    refine lv_iconst (v := 1) hx hb dX5_apart_97 (by decide) ?_
    refine lv_topi (fun v44 ev45 => ?_)
    have hF := nm_s hF ev45
    refine lv_istore_n (lv' := [(2, .int v44), (4, .int v33), (0, .ref x0), (3, .int x3)]) hx hb dX5_apart_98 rfl hl (by decide) rfl (fun ls hl => ?_)
    exact b_X5_apart_99 X _ hk45 _ _ _ _ _ _ _ hp (lv_sub hl [2, 0, 3] rfl) hF
  · have hF := if_n c39 hF
    refine lv_goto (tgt := 99) hx hb dX5_apart_86 (by decide) ?_
    exact b_X5_apart_99 X _ hk45 _ _ _ _ _ _ _ hp (lv_sub hl [1, 2, 3] rfl) hF
def fb_X5_apart_45 (S : mSh) (k37 : mMm → Nat → Int32 → Option (Int32 × mMm)) : Nat → mMm → Nat → Int32 → Int32 → Option (Int32 × mMm)
  | 0, _, _, _, _ => none
  | t + 1, M, x0, x2, x3 => (if (144 : Int32) ≤ x3 then (k37 M x0 x2) else gd ((S x0).1 = 6) (ob (f_X5_besides S M x0 x3) fun v27 => ob (rR S M x0 6 0) fun v28 => ob (aI S M v28 100 x3) fun v30 => (if v30 = (1 : Int32) then (fb_X5_apart_72 S (fb_X5_apart_45 S k37 t) M x0 x2 x3 (0 : Int32) v27) else (fb_X5_apart_72 S (fb_X5_apart_45 S k37 t) M x0 x2 x3 (1 : Int32) v27))))
theorem b_X5_apart_45 {r : Int32} {M' : mMm} (X : mCx D n0 P p m c cX5_apart 5 s args yX5_apart.cls meth (some .int)) (k37 : mMm → Nat → Int32 → Option (Int32 × mMm)) (hk37 : ∀ (M : mMm) (x0 : Nat) (x2 : Int32) (H : Heap) (locs : List Loc) (ls : Array Slot), mHp D n0 S M n s H locs → lv_has ls 5 [(0, .ref x0), (2, .int x2)] → k37 M x0 x2 = some (r, M') → W p l e Rm_X5_apart s m args below meth c H locs 0 0 (MQ below (mQ D n0 (some (.int r)) S M' n) args s 0 0 (mA n0)) (F0 m 37 ls [])) : ∀ t : Nat, ∀ (M : mMm) (x0 : Nat) (x2 : Int32) (x3 : Int32) (H : Heap) (locs : List Loc) (ls : Array Slot), mHp D n0 S M n s H locs → lv_has ls 5 [(0, .ref x0), (2, .int x2), (3, .int x3)] → fb_X5_apart_45 S k37 t M x0 x2 x3 = some (r, M') → W p l e Rm_X5_apart s m args below meth c H locs 0 0 (MQ below (mQ D n0 (some (.int r)) S M' n) args s 0 0 (mA n0)) (F0 m 45 ls []) := by
  have hx := X.1.1
  have hb := X.1.2.1
  have hown := X.1.2.2.2.1
  have hts := X.1.2.2.2.2
  intro t
  induction t with
  | zero =>
    intro M x0 x2 x3 H locs ls hp hl hF
    have hF : none = some (r, M') := hF
    cases hF
  | succ t ih =>
    intro M x0 x2 x3 H locs ls hp hl hF
    rw [fb_X5_apart_45] at hF
    refine lv_iload_n hx hb dX5_apart_45 rfl (lv_at hl 2 rfl) ?_
    refine lv_sipush (v := 144) hx hb dX5_apart_46 (by decide) ?_
    refine lv_icmp_ge (tgt := 105) hx hb dX5_apart_49 (by decide) (fun c24 => ?_) (fun c24 => ?_)
    · have hF := if_p c24 hF
      refine lv_goto (tgt := 37) hx hb dX5_apart_105 (by decide) ?_
      exact hk37 _ _ _ _ _ _ hp (lv_sub hl [0, 1] rfl) hF
    · have hF := if_n c24 hF
      refine lv_aload_n hx hb dX5_apart_52 rfl (lv_at hl 0 rfl) ?_
      refine lv_iload_n hx hb dX5_apart_53 rfl (lv_at hl 2 rfl) ?_
      obtain ⟨g25, hF⟩ := gd_s hF
      obtain ⟨v27, e26, hF⟩ := ob_s hF
      refine m_callV (As := [.int x3]) (rest := []) X hp (w_X5_besides e26) q2024 q2026 qs127 q144 q2027 1 rfl ds_X5_besides ⟨Nat.le_of_ble_eq_true rfl, Nat.le_of_ble_eq_true rfl⟩ 6 (T := TX5) (N := 40) rfl (by decide) g25 hl.1 rfl (Nat.le_of_ble_eq_true rfl) dX5_apart_54 ⟨Nat.le_refl 0, Nat.le_refl 0⟩ (fun H locs hp => ?_)
      refine lv_aload_n hx hb dX5_apart_57 rfl (lv_at hl 0 rfl) ?_
      obtain ⟨v28, e29, hF⟩ := ob_s hF
      refine m_getR X hp e29 kX5 (Nat.le_of_ble_eq_true rfl) q1459 dX5_apart_58 ?_
      refine lv_iload_n hx hb dX5_apart_61 rfl (lv_at hl 2 rfl) ?_
      obtain ⟨v30, e31, hF⟩ := ob_s hF
      refine m_iaI X hp e31 dX5_apart_62 ?_
      refine lv_iconst (v := 1) hx hb dX5_apart_63 (by decide) ?_
      refine lv_icmp_ne (tgt := 71) hx hb dX5_apart_64 (by decide) (fun c32 => ?_) (fun c32 => ?_)
      · have hF := if_n c32 hF
        refine lv_iconst (v := 1) hx hb dX5_apart_71 (by decide) ?_
        exact b_X5_apart_72 X _ ih _ _ _ _ _ _ _ _ _ hp (lv_sub hl [0, 1, 2] rfl) hF
      · have hF := if_p c32 hF
        refine lv_iconst (v := 0) hx hb dX5_apart_67 (by decide) ?_
        refine lv_goto (tgt := 72) hx hb dX5_apart_68 (by decide) ?_
        exact b_X5_apart_72 X _ ih _ _ _ _ _ _ _ _ _ hp (lv_sub hl [0, 1, 2] rfl) hF
def fb_X5_apart_154 (S : mSh) (k115 : mMm → Nat → Int32 → Int32 → Option (Int32 × mMm)) (M : mMm) (x0 : Nat) (x4 : Int32) (y0 : Int32) : Option (Int32 × mMm) := nm (x4 + (1 : Int32)) fun v62 => (k115 M x0 y0 v62)
theorem b_X5_apart_154 {r : Int32} {M' : mMm} (X : mCx D n0 P p m c cX5_apart 5 s args yX5_apart.cls meth (some .int)) (k115 : mMm → Nat → Int32 → Int32 → Option (Int32 × mMm)) (hk115 : ∀ (M : mMm) (x0 : Nat) (x3 : Int32) (x4 : Int32) (H : Heap) (locs : List Loc) (ls : Array Slot), mHp D n0 S M n s H locs → lv_has ls 5 [(0, .ref x0), (3, .int x3), (4, .int x4)] → k115 M x0 x3 x4 = some (r, M') → W p l e Rm_X5_apart s m args below meth c H locs 0 0 (MQ below (mQ D n0 (some (.int r)) S M' n) args s 0 0 (mA n0)) (F0 m 115 ls [])) : ∀ (M : mMm) (x0 : Nat) (x4 : Int32) (y0 : Int32) (H : Heap) (locs : List Loc) (ls : Array Slot), mHp D n0 S M n s H locs → lv_has ls 5 [(0, .ref x0), (4, .int x4)] → fb_X5_apart_154 S k115 M x0 x4 y0 = some (r, M') → W p l e Rm_X5_apart s m args below meth c H locs 0 0 (MQ below (mQ D n0 (some (.int r)) S M' n) args s 0 0 (mA n0)) (F0 m 154 ls [.int y0]) := by
  have hx := X.1.1
  have hb := X.1.2.1
  have hown := X.1.2.2.2.1
  have hts := X.1.2.2.2.2
  intro M x0 x4 y0 H locs ls hp hl hF
  unfold fb_X5_apart_154 at hF
  refine lv_istore_n (lv' := [(3, .int y0), (0, .ref x0), (4, .int x4)]) hx hb dX5_apart_154 rfl hl (by decide) rfl (fun ls hl => ?_)
  obtain ⟨v62, ev63⟩ : ∃ y : Int32, y = x4 + (1 : Int32) := ⟨_, rfl⟩
  have hF := nm_s hF ev63
  refine lv_iinc (v := v62) (lv' := [(4, .int v62), (3, .int y0), (0, .ref x0)]) hx hb dX5_apart_155 hl (k := 2) rfl (by rw [ev63]; rfl) (by decide) rfl (fun ls hl => ?_)
  refine lv_goto (tgt := 115) hx hb dX5_apart_158 (by decide) ?_
  exact hk115 _ _ _ _ _ _ _ hp (lv_sub hl [2, 1, 0] rfl) hF
def fb_X5_apart_115 (S : mSh) : Nat → mMm → Nat → Int32 → Int32 → Option (Int32 × mMm)
  | 0, _, _, _, _ => none
  | t + 1, M, x0, x3, x4 => (if (12 : Int32) ≤ x4 then some (x3, M) else ob (rR S M x0 6 37) fun v49 => ob (f_X5_place (11 : Int32) x4) fun v52 => ob (aI S M v49 100 v52) fun v53 => (if x3 ≤ v53 then (fb_X5_apart_154 S (fb_X5_apart_115 S t) M x0 x4 x3) else ob (rR S M x0 6 37) fun v56 => ob (f_X5_place (11 : Int32) x4) fun v59 => ob (aI S M v56 100 v59) fun v60 => (fb_X5_apart_154 S (fb_X5_apart_115 S t) M x0 x4 v60)))
theorem b_X5_apart_115 {r : Int32} {M' : mMm} (X : mCx D n0 P p m c cX5_apart 5 s args yX5_apart.cls meth (some .int)) : ∀ t : Nat, ∀ (M : mMm) (x0 : Nat) (x3 : Int32) (x4 : Int32) (H : Heap) (locs : List Loc) (ls : Array Slot), mHp D n0 S M n s H locs → lv_has ls 5 [(0, .ref x0), (3, .int x3), (4, .int x4)] → fb_X5_apart_115 S t M x0 x3 x4 = some (r, M') → W p l e Rm_X5_apart s m args below meth c H locs 0 0 (MQ below (mQ D n0 (some (.int r)) S M' n) args s 0 0 (mA n0)) (F0 m 115 ls []) := by
  have hx := X.1.1
  have hb := X.1.2.1
  have hown := X.1.2.2.2.1
  have hts := X.1.2.2.2.2
  intro t
  induction t with
  | zero =>
    intro M x0 x3 x4 H locs ls hp hl hF
    have hF : none = some (r, M') := hF
    cases hF
  | succ t ih =>
    intro M x0 x3 x4 H locs ls hp hl hF
    rw [fb_X5_apart_115] at hF
    refine lv_iload hx hb dX5_apart_115 (lv_at hl 2 rfl) ?_
    refine lv_bipush (v := 12) hx hb dX5_apart_117 (by decide) ?_
    refine lv_icmp_ge (tgt := 161) hx hb dX5_apart_119 (by decide) (fun c48 => ?_) (fun c48 => ?_)
    · have hF := if_p c48 hF
      refine lv_iload_n hx hb dX5_apart_161 rfl (lv_at hl 1 rfl) ?_
      cases hF
      exact m_iret X hp dX5_apart_162
    · have hF := if_n c48 hF
      refine lv_aload_n hx hb dX5_apart_122 rfl (lv_at hl 0 rfl) ?_
      obtain ⟨v49, e50, hF⟩ := ob_s hF
      refine m_getR X hp e50 kX5 (Nat.le_of_ble_eq_true rfl) q1496 dX5_apart_123 ?_
      refine lv_bipush (v := 11) hx hb dX5_apart_126 (by decide) ?_
      refine lv_iload hx hb dX5_apart_128 (lv_at hl 2 rfl) ?_
      obtain ⟨v52, e51, hF⟩ := ob_s hF
      refine m_callS (As := [.int (11 : Int32), .int x4]) (rest := [.ref v49]) X hp (w_X5_place e51) q1708 q1709 q144 q1710 2 rfl ds_X5_place ⟨Nat.le_of_ble_eq_true rfl, Nat.le_of_ble_eq_true rfl⟩ hl.1 rfl (Nat.le_of_ble_eq_true rfl) dX5_apart_130 ⟨Nat.le_refl 0, Nat.le_refl 0⟩ (fun H locs hp => ?_)
      obtain ⟨v53, e54, hF⟩ := ob_s hF
      refine m_iaI X hp e54 dX5_apart_133 ?_
      refine lv_iload_n hx hb dX5_apart_134 rfl (lv_at hl 1 rfl) ?_
      refine lv_icmp_ge (tgt := 153) hx hb dX5_apart_135 (by decide) (fun c55 => ?_) (fun c55 => ?_)
      · have hF := if_p c55 hF
        refine lv_iload_n hx hb dX5_apart_153 rfl (lv_at hl 1 rfl) ?_
        exact b_X5_apart_154 X _ ih _ _ _ _ _ _ _ hp (lv_sub hl [0, 2] rfl) hF
      · have hF := if_n c55 hF
        refine lv_aload_n hx hb dX5_apart_138 rfl (lv_at hl 0 rfl) ?_
        obtain ⟨v56, e57, hF⟩ := ob_s hF
        refine m_getR X hp e57 kX5 (Nat.le_of_ble_eq_true rfl) q1496 dX5_apart_139 ?_
        refine lv_bipush (v := 11) hx hb dX5_apart_142 (by decide) ?_
        refine lv_iload hx hb dX5_apart_144 (lv_at hl 2 rfl) ?_
        obtain ⟨v59, e58, hF⟩ := ob_s hF
        refine m_callS (As := [.int (11 : Int32), .int x4]) (rest := [.ref v56]) X hp (w_X5_place e58) q1708 q1709 q144 q1710 2 rfl ds_X5_place ⟨Nat.le_of_ble_eq_true rfl, Nat.le_of_ble_eq_true rfl⟩ hl.1 rfl (Nat.le_of_ble_eq_true rfl) dX5_apart_146 ⟨Nat.le_refl 0, Nat.le_refl 0⟩ (fun H locs hp => ?_)
        obtain ⟨v60, e61, hF⟩ := ob_s hF
        refine m_iaI X hp e61 dX5_apart_149 ?_
        refine lv_goto (tgt := 154) hx hb dX5_apart_150 (by decide) ?_
        exact b_X5_apart_154 X _ ih _ _ _ _ _ _ _ hp (lv_sub hl [0, 2] rfl) hF
def fb_X5_apart_37 (S : mSh) : Nat → mMm → Nat → Int32 → Option (Int32 × mMm)
  | 0, _, _, _ => none
  | t + 1, M, x0, x2 => (if x2 = 0 then nm ((9999 : Int32)) fun v16 => nm ((0 : Int32)) fun v18 => (fb_X5_apart_115 S FU M x0 v16 v18) else nm ((0 : Int32)) fun v20 => nm ((0 : Int32)) fun v22 => (fb_X5_apart_45 S (fb_X5_apart_37 S t) FU M x0 v20 v22))
theorem b_X5_apart_37 {r : Int32} {M' : mMm} (X : mCx D n0 P p m c cX5_apart 5 s args yX5_apart.cls meth (some .int)) : ∀ t : Nat, ∀ (M : mMm) (x0 : Nat) (x2 : Int32) (H : Heap) (locs : List Loc) (ls : Array Slot), mHp D n0 S M n s H locs → lv_has ls 5 [(0, .ref x0), (2, .int x2)] → fb_X5_apart_37 S t M x0 x2 = some (r, M') → W p l e Rm_X5_apart s m args below meth c H locs 0 0 (MQ below (mQ D n0 (some (.int r)) S M' n) args s 0 0 (mA n0)) (F0 m 37 ls []) := by
  have hx := X.1.1
  have hb := X.1.2.1
  have hown := X.1.2.2.2.1
  have hts := X.1.2.2.2.2
  intro t
  induction t with
  | zero =>
    intro M x0 x2 H locs ls hp hl hF
    have hF : none = some (r, M') := hF
    cases hF
  | succ t ih =>
    intro M x0 x2 H locs ls hp hl hF
    rw [fb_X5_apart_37] at hF
    refine lv_iload_n hx hb dX5_apart_37 rfl (lv_at hl 1 rfl) ?_
    refine lv_if_eq (tgt := 108) hx hb dX5_apart_38 (by decide) (fun c15 => ?_) (fun c15 => ?_)
    · have hF := if_p c15 hF
      refine lv_sipush (v := 9999) hx hb dX5_apart_108 (by decide) ?_
      refine lv_topi (fun v16 ev17 => ?_)
      have hF := nm_s hF ev17
      refine lv_istore_n (lv' := [(3, .int v16), (0, .ref x0), (2, .int x2)]) hx hb dX5_apart_111 rfl hl (by decide) rfl (fun ls hl => ?_)
      refine lv_iconst (v := 0) hx hb dX5_apart_112 (by decide) ?_
      refine lv_topi (fun v18 ev19 => ?_)
      have hF := nm_s hF ev19
      refine lv_istore (lv' := [(4, .int v18), (3, .int v16), (0, .ref x0), (2, .int x2)]) hx hb dX5_apart_113 hl (by decide) rfl (fun ls hl => ?_)
      exact b_X5_apart_115 X _ _ _ _ _ _ _ _ hp (lv_sub hl [2, 1, 0] rfl) hF
    · have hF := if_n c15 hF
      refine lv_iconst (v := 0) hx hb dX5_apart_41 (by decide) ?_
      refine lv_topi (fun v20 ev21 => ?_)
      have hF := nm_s hF ev21
      refine lv_istore_n (lv' := [(2, .int v20), (0, .ref x0)]) hx hb dX5_apart_42 rfl hl (by decide) rfl (fun ls hl => ?_)
      refine lv_iconst (v := 0) hx hb dX5_apart_43 (by decide) ?_
      refine lv_topi (fun v22 ev23 => ?_)
      have hF := nm_s hF ev23
      refine lv_istore_n (lv' := [(3, .int v22), (2, .int v20), (0, .ref x0)]) hx hb dX5_apart_44 rfl hl (by decide) rfl (fun ls hl => ?_)
      exact b_X5_apart_45 X _ ih _ _ _ _ _ _ _ _ hp (lv_sub hl [2, 1, 0] rfl) hF
def fb_X5_apart_13 (S : mSh) : Nat → mMm → Nat → Int32 → Option (Int32 × mMm)
  | 0, _, _, _ => none
  | t + 1, M, x0, x2 => (if (144 : Int32) ≤ x2 then nm ((1 : Int32)) fun v7 => (fb_X5_apart_37 S FU M x0 v7) else ob (rR S M x0 6 37) fun v9 => ob (wA S M v9 100 x2 (.int (9999 : Int32))) fun M11 => nm (x2 + (1 : Int32)) fun v13 => (fb_X5_apart_13 S t M11 x0 v13))
theorem b_X5_apart_13 {r : Int32} {M' : mMm} (X : mCx D n0 P p m c cX5_apart 5 s args yX5_apart.cls meth (some .int)) : ∀ t : Nat, ∀ (M : mMm) (x0 : Nat) (x2 : Int32) (H : Heap) (locs : List Loc) (ls : Array Slot), mHp D n0 S M n s H locs → lv_has ls 5 [(0, .ref x0), (2, .int x2)] → fb_X5_apart_13 S t M x0 x2 = some (r, M') → W p l e Rm_X5_apart s m args below meth c H locs 0 0 (MQ below (mQ D n0 (some (.int r)) S M' n) args s 0 0 (mA n0)) (F0 m 13 ls []) := by
  have hx := X.1.1
  have hb := X.1.2.1
  have hown := X.1.2.2.2.1
  have hts := X.1.2.2.2.2
  intro t
  induction t with
  | zero =>
    intro M x0 x2 H locs ls hp hl hF
    have hF : none = some (r, M') := hF
    cases hF
  | succ t ih =>
    intro M x0 x2 H locs ls hp hl hF
    rw [fb_X5_apart_13] at hF
    refine lv_iload_n hx hb dX5_apart_13 rfl (lv_at hl 1 rfl) ?_
    refine lv_sipush (v := 144) hx hb dX5_apart_14 (by decide) ?_
    refine lv_icmp_ge (tgt := 35) hx hb dX5_apart_17 (by decide) (fun c6 => ?_) (fun c6 => ?_)
    · have hF := if_p c6 hF
      refine lv_iconst (v := 1) hx hb dX5_apart_35 (by decide) ?_
      refine lv_topi (fun v7 ev8 => ?_)
      have hF := nm_s hF ev8
      refine lv_istore_n (lv' := [(2, .int v7), (0, .ref x0)]) hx hb dX5_apart_36 rfl hl (by decide) rfl (fun ls hl => ?_)
      exact b_X5_apart_37 X _ _ _ _ _ _ _ hp (lv_sub hl [1, 0] rfl) hF
    · have hF := if_n c6 hF
      refine lv_aload_n hx hb dX5_apart_20 rfl (lv_at hl 0 rfl) ?_
      obtain ⟨v9, e10, hF⟩ := ob_s hF
      refine m_getR X hp e10 kX5 (Nat.le_of_ble_eq_true rfl) q1496 dX5_apart_21 ?_
      refine lv_iload_n hx hb dX5_apart_24 rfl (lv_at hl 1 rfl) ?_
      refine lv_sipush (v := 9999) hx hb dX5_apart_25 (by decide) ?_
      obtain ⟨M11, e12, hF⟩ := ob_s hF
      refine m_iaW X hp e12 dX5_apart_28 (fun H locs hp => ?_)
      obtain ⟨v13, ev14⟩ : ∃ y : Int32, y = x2 + (1 : Int32) := ⟨_, rfl⟩
      have hF := nm_s hF ev14
      refine lv_iinc (v := v13) (lv' := [(2, .int v13), (0, .ref x0)]) hx hb dX5_apart_29 hl (k := 1) rfl (by rw [ev14]; rfl) (by decide) rfl (fun ls hl => ?_)
      refine lv_goto (tgt := 13) hx hb dX5_apart_32 (by decide) ?_
      exact ih _ _ _ _ _ _ hp (lv_sub hl [1, 0] rfl) hF
def f_X5_apart (S : mSh) (M : mMm) (x0 : Nat) (x1 : Int32) : Option (Int32 × mMm) := ob (f_X5_within x1 (0 : Int32) (1 : Int32)) fun v2 => (if v2 = 0 then some ((-1 : Int32), M) else nm ((0 : Int32)) fun v4 => (fb_X5_apart_13 S FU M x0 v4))
theorem w_X5_apart {x0 : Nat} {x1 : Int32} {r : Int32} {M' : mMm} (hF : f_X5_apart S M x0 x1 = some (r, M')) : mCt l D n0 P yX5_apart cX5_apart 5 (some .int) 3 68 0 0 [.ref x0, .int x1] S M n (some (.int r)) S M' n := by
  refine m_ofW (by decide) (Nat.le_of_ble_eq_true rfl) (fun p e s m below meth c X hnm hp ls hl => ?_)
  have hx := X.1.1
  have hb := X.1.2.1
  have hown := X.1.2.2.2.1
  have hts := X.1.2.2.2.2
  have hl : lv_has ls 5 [(0, .ref x0), (1, .int x1)] := hl
  unfold f_X5_apart at hF
  refine lv_iload_n hx hb dX5_apart_0 rfl (lv_at hl 1 rfl) ?_
  refine lv_iconst (v := 0) hx hb dX5_apart_1 (by decide) ?_
  refine lv_iconst (v := 1) hx hb dX5_apart_2 (by decide) ?_
  obtain ⟨v2, e1, hF⟩ := ob_s hF
  refine m_callS (As := [.int x1, .int (0 : Int32), .int (1 : Int32)]) (rest := []) X hp (w_X5_within e1) q1588 q1589 q144 q1590 3 rfl ds_X5_within ⟨Nat.le_of_ble_eq_true rfl, Nat.le_of_ble_eq_true rfl⟩ hl.1 rfl (Nat.le_of_ble_eq_true rfl) dX5_apart_3 ⟨Nat.le_refl 0, Nat.le_refl 0⟩ (fun H locs hp => ?_)
  refine lv_if_ne (tgt := 11) hx hb dX5_apart_6 (by decide) (fun c3 => ?_) (fun c3 => ?_)
  · have hF := if_n c3 hF
    refine lv_iconst (v := 0) hx hb dX5_apart_11 (by decide) ?_
    refine lv_topi (fun v4 ev5 => ?_)
    have hF := nm_s hF ev5
    refine lv_istore_n (lv' := [(2, .int v4), (0, .ref x0), (1, .int x1)]) hx hb dX5_apart_12 rfl hl (by decide) rfl (fun ls hl => ?_)
    exact b_X5_apart_13 X _ _ _ _ _ _ _ hp (lv_sub hl [1, 0] rfl) hF
  · have hF := if_p c3 hF
    refine lv_iconst (v := -1) hx hb dX5_apart_9 (by decide) ?_
    cases hF
    exact m_iret X hp dX5_apart_10
end
section
variable {l : Launch} {D : va_G} {n0 : Nat} {P : mP} {S : mSh} {M : mMm} {n : Nat} {p : Program} {e : Env} {s : State} {m : MethodId} {args : Array Value} {below : List Frame} {meth : Method} {c : Code}
abbrev Rm_X5_otherwise : Room := { frames := 0, cells := 0, slots := 0, locals := 0 }
def f_X5_otherwise (S : mSh) (M : mMm) (x0 : Nat) (x1 : Int32) (x2 : Int32) : Option Int32 := ob (rR S M x0 6 0) fun v1 => ob (aI S M v1 100 (2357 : Int32)) fun v3 => ob (rR S M x0 6 0) fun v5 => gd (¬ v3 = 0) (ob (aI S M v5 100 ((2358 : Int32) + (((x1 / (2 : Int32)) + x2) - ((x1 / (2 : Int32)) + x2) / v3 * v3))) fun v8 => (if (x1 - x1 / (2 : Int32) * (2 : Int32)) = (1 : Int32) then (if (2 : Int32) ≤ v8 then some v8 else some ((1 : Int32) - v8)) else some v8))
theorem w_X5_otherwise {x0 : Nat} {x1 : Int32} {x2 : Int32} {r : Int32} (hF : f_X5_otherwise S M x0 x1 x2 = some r) : mCt l D n0 P yX5_otherwise cX5_otherwise 5 (some .int) 0 0 0 0 [.ref x0, .int x1, .int x2] S M n (some (.int r)) S M n := by
  refine m_ofW (by decide) (Nat.le_of_ble_eq_true rfl) (fun p e s m below meth c X hnm hp ls hl => ?_)
  have hx := X.1.1
  have hb := X.1.2.1
  have hown := X.1.2.2.2.1
  have hts := X.1.2.2.2.2
  have hl : lv_has ls 5 [(0, .ref x0), (1, .int x1), (2, .int x2)] := hl
  unfold f_X5_otherwise at hF
  refine lv_aload_n hx hb dX5_otherwise_0 rfl (lv_at hl 0 rfl) ?_
  obtain ⟨v1, e2, hF⟩ := ob_s hF
  refine m_getR X hp e2 kX5 (Nat.le_of_ble_eq_true rfl) q1459 dX5_otherwise_1 ?_
  refine lv_sipush (v := 2357) hx hb dX5_otherwise_4 (by decide) ?_
  obtain ⟨v3, e4, hF⟩ := ob_s hF
  refine m_iaI X hp e4 dX5_otherwise_7 ?_
  refine lv_istore_n (lv' := [(3, .int v3), (0, .ref x0), (1, .int x1), (2, .int x2)]) hx hb dX5_otherwise_8 rfl hl (by decide) rfl (fun ls hl => ?_)
  refine lv_aload_n hx hb dX5_otherwise_9 rfl (lv_at hl 1 rfl) ?_
  obtain ⟨v5, e6, hF⟩ := ob_s hF
  refine m_getR X hp e6 kX5 (Nat.le_of_ble_eq_true rfl) q1459 dX5_otherwise_10 ?_
  refine lv_sipush (v := 2358) hx hb dX5_otherwise_13 (by decide) ?_
  refine lv_iload_n hx hb dX5_otherwise_16 rfl (lv_at hl 2 rfl) ?_
  refine lv_iconst (v := 2) hx hb dX5_otherwise_17 (by decide) ?_
  refine lv_idiv hx hb dX5_otherwise_18 (by decide) ?_
  refine lv_iload_n hx hb dX5_otherwise_19 rfl (lv_at hl 3 rfl) ?_
  refine lv_iadd hx hb dX5_otherwise_20 ?_
  refine lv_iload_n hx hb dX5_otherwise_21 rfl (lv_at hl 0 rfl) ?_
  obtain ⟨g7, hF⟩ := gd_s hF
  refine lv_irem hx hb dX5_otherwise_22 g7 ?_
  refine lv_iadd hx hb dX5_otherwise_23 ?_
  obtain ⟨v8, e9, hF⟩ := ob_s hF
  refine m_iaI X hp e9 dX5_otherwise_24 ?_
  refine lv_istore (lv' := [(4, .int v8), (3, .int v3), (0, .ref x0), (1, .int x1), (2, .int x2)]) hx hb dX5_otherwise_25 hl (by decide) rfl (fun ls hl => ?_)
  refine lv_iload_n hx hb dX5_otherwise_27 rfl (lv_at hl 3 rfl) ?_
  refine lv_iconst (v := 2) hx hb dX5_otherwise_28 (by decide) ?_
  refine lv_irem hx hb dX5_otherwise_29 (by decide) ?_
  refine lv_iconst (v := 1) hx hb dX5_otherwise_30 (by decide) ?_
  refine lv_icmp_ne (tgt := 47) hx hb dX5_otherwise_31 (by decide) (fun c10 => ?_) (fun c10 => ?_)
  · have hF := if_n c10 hF
    refine lv_iload hx hb dX5_otherwise_47 (lv_at hl 0 rfl) ?_
    cases hF
    exact m_iret X hp dX5_otherwise_49
  · have hF := if_p c10 hF
    refine lv_iload hx hb dX5_otherwise_34 (lv_at hl 0 rfl) ?_
    refine lv_iconst (v := 2) hx hb dX5_otherwise_36 (by decide) ?_
    refine lv_icmp_ge (tgt := 47) hx hb dX5_otherwise_37 (by decide) (fun c11 => ?_) (fun c11 => ?_)
    · have hF := if_p c11 hF
      refine lv_iload hx hb dX5_otherwise_47 (lv_at hl 0 rfl) ?_
      cases hF
      exact m_iret X hp dX5_otherwise_49
    · have hF := if_n c11 hF
      refine lv_iconst (v := 1) hx hb dX5_otherwise_40 (by decide) ?_
      refine lv_iload hx hb dX5_otherwise_41 (lv_at hl 0 rfl) ?_
      refine lv_isub hx hb dX5_otherwise_43 ?_
      refine lv_goto (tgt := 49) hx hb dX5_otherwise_44 (by decide) ?_
      cases hF
      exact m_iret X hp dX5_otherwise_49
end
section
variable {l : Launch} {D : va_G} {n0 : Nat} {P : mP} {S : mSh} {M : mMm} {n : Nat} {p : Program} {e : Env} {s : State} {m : MethodId} {args : Array Value} {below : List Frame} {meth : Method} {c : Code}
abbrev Rm_X5_areAlike : Room := { frames := 1, cells := 0, slots := 0, locals := 24 }
def fb_X5_areAlike_44 (S : mSh) (M : mMm) (k2 : Nat → Int32 → Int32 → Int32 → Option Int32) (x0 : Nat) (x1 : Int32) (x2 : Int32) (x3 : Int32) (y0 : Int32) (y1 : Int32) : Option Int32 := (if y1 = y0 then nm (x3 + (1 : Int32)) fun v18 => (k2 x0 x1 x2 v18) else some (0 : Int32))
theorem b_X5_areAlike_44 {r : Int32} (X : mCx D n0 P p m c cX5_areAlike 4 s args yX5_areAlike.cls meth (some .boolean)) (k2 : Nat → Int32 → Int32 → Int32 → Option Int32) (hk2 : ∀ (x0 : Nat) (x1 : Int32) (x2 : Int32) (x3 : Int32) (H : Heap) (locs : List Loc) (ls : Array Slot), mHp D n0 S M n s H locs → lv_has ls 4 [(0, .ref x0), (1, .int x1), (2, .int x2), (3, .int x3)] → k2 x0 x1 x2 x3 = some r → W p l e Rm_X5_areAlike s m args below meth c H locs 0 0 (MQ below (mQ D n0 (some (.int r)) S M n) args s 0 0 (mA n0)) (F0 m 2 ls [])) : ∀ (x0 : Nat) (x1 : Int32) (x2 : Int32) (x3 : Int32) (y0 : Int32) (y1 : Int32) (H : Heap) (locs : List Loc) (ls : Array Slot), mHp D n0 S M n s H locs → lv_has ls 4 [(0, .ref x0), (1, .int x1), (2, .int x2), (3, .int x3)] → fb_X5_areAlike_44 S M k2 x0 x1 x2 x3 y0 y1 = some r → W p l e Rm_X5_areAlike s m args below meth c H locs 0 0 (MQ below (mQ D n0 (some (.int r)) S M n) args s 0 0 (mA n0)) (F0 m 44 ls [.int y0, .int y1]) := by
  have hx := X.1.1
  have hb := X.1.2.1
  have hown := X.1.2.2.2.1
  have hts := X.1.2.2.2.2
  intro x0 x1 x2 x3 y0 y1 H locs ls hp hl hF
  unfold fb_X5_areAlike_44 at hF
  refine lv_icmp_eq (tgt := 49) hx hb dX5_areAlike_44 (by decide) (fun c17 => ?_) (fun c17 => ?_)
  · have hF := if_p c17 hF
    obtain ⟨v18, ev19⟩ : ∃ y : Int32, y = x3 + (1 : Int32) := ⟨_, rfl⟩
    have hF := nm_s hF ev19
    refine lv_iinc (v := v18) (lv' := [(3, .int v18), (0, .ref x0), (1, .int x1), (2, .int x2)]) hx hb dX5_areAlike_49 hl (k := 3) rfl (by rw [ev19]; rfl) (by decide) rfl (fun ls hl => ?_)
    refine lv_goto (tgt := 2) hx hb dX5_areAlike_52 (by decide) ?_
    exact hk2 _ _ _ _ _ _ _ hp (lv_sub hl [1, 2, 3, 0] rfl) hF
  · have hF := if_n c17 hF
    refine lv_iconst (v := 0) hx hb dX5_areAlike_47 (by decide) ?_
    cases hF
    exact m_zret X hp rfl dX5_areAlike_48
def fb_X5_areAlike_2 (S : mSh) (M : mMm) : Nat → Nat → Int32 → Int32 → Int32 → Option Int32
  | 0, _, _, _, _ => none
  | t + 1, x0, x1, x2, x3 => ob (rR S M x0 6 0) fun v3 => ob (aI S M v3 100 (2357 : Int32)) fun v5 => (if v5 ≤ x3 then some (1 : Int32) else ob (f_X5_otherwise S M x0 x1 x3) fun v9 => (if x2 = (-1 : Int32) then ob (rR S M x0 6 0) fun v13 => ob (aI S M v13 100 ((2371 : Int32) + x3)) fun v15 => (fb_X5_areAlike_44 S M (fb_X5_areAlike_2 S M t) x0 x1 x2 x3 v15 v9) else ob (f_X5_otherwise S M x0 x2 x3) fun v12 => (fb_X5_areAlike_44 S M (fb_X5_areAlike_2 S M t) x0 x1 x2 x3 v12 v9)))
theorem b_X5_areAlike_2 {r : Int32} (X : mCx D n0 P p m c cX5_areAlike 4 s args yX5_areAlike.cls meth (some .boolean)) : ∀ t : Nat, ∀ (x0 : Nat) (x1 : Int32) (x2 : Int32) (x3 : Int32) (H : Heap) (locs : List Loc) (ls : Array Slot), mHp D n0 S M n s H locs → lv_has ls 4 [(0, .ref x0), (1, .int x1), (2, .int x2), (3, .int x3)] → fb_X5_areAlike_2 S M t x0 x1 x2 x3 = some r → W p l e Rm_X5_areAlike s m args below meth c H locs 0 0 (MQ below (mQ D n0 (some (.int r)) S M n) args s 0 0 (mA n0)) (F0 m 2 ls []) := by
  have hx := X.1.1
  have hb := X.1.2.1
  have hown := X.1.2.2.2.1
  have hts := X.1.2.2.2.2
  intro t
  induction t with
  | zero =>
    intro x0 x1 x2 x3 H locs ls hp hl hF
    have hF : none = some r := hF
    cases hF
  | succ t ih =>
    intro x0 x1 x2 x3 H locs ls hp hl hF
    rw [fb_X5_areAlike_2] at hF
    refine lv_iload_n hx hb dX5_areAlike_2 rfl (lv_at hl 3 rfl) ?_
    refine lv_aload_n hx hb dX5_areAlike_3 rfl (lv_at hl 0 rfl) ?_
    obtain ⟨v3, e4, hF⟩ := ob_s hF
    refine m_getR X hp e4 kX5 (Nat.le_of_ble_eq_true rfl) q1459 dX5_areAlike_4 ?_
    refine lv_sipush (v := 2357) hx hb dX5_areAlike_7 (by decide) ?_
    obtain ⟨v5, e6, hF⟩ := ob_s hF
    refine m_iaI X hp e6 dX5_areAlike_10 ?_
    refine lv_icmp_ge (tgt := 55) hx hb dX5_areAlike_11 (by decide) (fun c7 => ?_) (fun c7 => ?_)
    · have hF := if_p c7 hF
      refine lv_iconst (v := 1) hx hb dX5_areAlike_55 (by decide) ?_
      cases hF
      exact m_zret X hp rfl dX5_areAlike_56
    · have hF := if_n c7 hF
      refine lv_aload_n hx hb dX5_areAlike_14 rfl (lv_at hl 0 rfl) ?_
      refine lv_iload_n hx hb dX5_areAlike_15 rfl (lv_at hl 1 rfl) ?_
      refine lv_iload_n hx hb dX5_areAlike_16 rfl (lv_at hl 3 rfl) ?_
      obtain ⟨v9, e8, hF⟩ := ob_s hF
      refine m_callV (As := [.int x1, .int x3]) (rest := []) X hp (w_X5_otherwise e8) q1969 q1971 qs123 q144 q1972 2 rfl ds_X5_otherwise ⟨Nat.le_of_ble_eq_true rfl, Nat.le_of_ble_eq_true rfl⟩ 6 (T := TX5) (N := 40) rfl (by decide) (rR_s e4).1 hl.1 rfl (Nat.le_of_ble_eq_true rfl) dX5_areAlike_17 ⟨Nat.le_refl 0, Nat.le_refl 0⟩ (fun H locs hp => ?_)
      refine lv_iload_n hx hb dX5_areAlike_20 rfl (lv_at hl 2 rfl) ?_
      refine lv_iconst (v := -1) hx hb dX5_areAlike_21 (by decide) ?_
      refine lv_icmp_ne (tgt := 38) hx hb dX5_areAlike_22 (by decide) (fun c10 => ?_) (fun c10 => ?_)
      · have hF := if_n c10 hF
        refine lv_aload_n hx hb dX5_areAlike_38 rfl (lv_at hl 0 rfl) ?_
        refine lv_iload_n hx hb dX5_areAlike_39 rfl (lv_at hl 2 rfl) ?_
        refine lv_iload_n hx hb dX5_areAlike_40 rfl (lv_at hl 3 rfl) ?_
        obtain ⟨v12, e11, hF⟩ := ob_s hF
        refine m_callV (As := [.int x2, .int x3]) (rest := [.int v9]) X hp (w_X5_otherwise e11) q1969 q1971 qs123 q144 q1972 2 rfl ds_X5_otherwise ⟨Nat.le_of_ble_eq_true rfl, Nat.le_of_ble_eq_true rfl⟩ 6 (T := TX5) (N := 40) rfl (by decide) (rR_s e4).1 hl.1 rfl (Nat.le_of_ble_eq_true rfl) dX5_areAlike_41 ⟨Nat.le_refl 0, Nat.le_refl 0⟩ (fun H locs hp => ?_)
        exact b_X5_areAlike_44 X _ ih _ _ _ _ _ _ _ _ _ hp (lv_sub hl [0, 1, 2, 3] rfl) hF
      · have hF := if_p c10 hF
        refine lv_aload_n hx hb dX5_areAlike_25 rfl (lv_at hl 0 rfl) ?_
        obtain ⟨v13, e14, hF⟩ := ob_s hF
        refine m_getR X hp e14 kX5 (Nat.le_of_ble_eq_true rfl) q1459 dX5_areAlike_26 ?_
        refine lv_sipush (v := 2371) hx hb dX5_areAlike_29 (by decide) ?_
        refine lv_iload_n hx hb dX5_areAlike_32 rfl (lv_at hl 3 rfl) ?_
        refine lv_iadd hx hb dX5_areAlike_33 ?_
        obtain ⟨v15, e16, hF⟩ := ob_s hF
        refine m_iaI X hp e16 dX5_areAlike_34 ?_
        refine lv_goto (tgt := 44) hx hb dX5_areAlike_35 (by decide) ?_
        exact b_X5_areAlike_44 X _ ih _ _ _ _ _ _ _ _ _ hp (lv_sub hl [0, 1, 2, 3] rfl) hF
def f_X5_areAlike (S : mSh) (M : mMm) (x0 : Nat) (x1 : Int32) (x2 : Int32) : Option Int32 := nm ((0 : Int32)) fun v1 => (fb_X5_areAlike_2 S M FU x0 x1 x2 v1)
theorem w_X5_areAlike {x0 : Nat} {x1 : Int32} {x2 : Int32} {r : Int32} (hF : f_X5_areAlike S M x0 x1 x2 = some r) : mCt l D n0 P yX5_areAlike cX5_areAlike 4 (some .boolean) 1 24 0 0 [.ref x0, .int x1, .int x2] S M n (some (.int r)) S M n := by
  refine m_ofW (by decide) (Nat.le_of_ble_eq_true rfl) (fun p e s m below meth c X hnm hp ls hl => ?_)
  have hx := X.1.1
  have hb := X.1.2.1
  have hown := X.1.2.2.2.1
  have hts := X.1.2.2.2.2
  have hl : lv_has ls 4 [(0, .ref x0), (1, .int x1), (2, .int x2)] := hl
  unfold f_X5_areAlike at hF
  refine lv_iconst (v := 0) hx hb dX5_areAlike_0 (by decide) ?_
  refine lv_topi (fun v1 ev2 => ?_)
  have hF := nm_s hF ev2
  refine lv_istore_n (lv' := [(3, .int v1), (0, .ref x0), (1, .int x1), (2, .int x2)]) hx hb dX5_areAlike_1 rfl hl (by decide) rfl (fun ls hl => ?_)
  exact b_X5_areAlike_2 X _ _ _ _ _ _ _ _ hp (lv_sub hl [1, 2, 3, 0] rfl) hF
end
section
variable {l : Launch} {D : va_G} {n0 : Nat} {P : mP} {S : mSh} {M : mMm} {n : Nat} {p : Program} {e : Env} {s : State} {m : MethodId} {args : Array Value} {below : List Frame} {meth : Method} {c : Code}
abbrev Rm_X5_asInt : Room := { frames := 0, cells := 0, slots := 0, locals := 0 }
def f_X5_asInt (x0 : Int32) : Option Int32 := (if x0 = 0 then some (0 : Int32) else some (1 : Int32))
theorem w_X5_asInt {x0 : Int32} {r : Int32} (hF : f_X5_asInt x0 = some r) : mCt l D n0 P yX5_asInt cX5_asInt 1 (some .int) 0 0 0 0 [.int x0] S M n (some (.int r)) S M n := by
  refine m_ofW (by decide) (Nat.le_of_ble_eq_true rfl) (fun p e s m below meth c X hnm hp ls hl => ?_)
  have hx := X.1.1
  have hb := X.1.2.1
  have hown := X.1.2.2.2.1
  have hts := X.1.2.2.2.2
  have hl : lv_has ls 1 [(0, .int x0)] := hl
  unfold f_X5_asInt at hF
  refine lv_iload_n hx hb dX5_asInt_0 rfl (lv_at hl 0 rfl) ?_
  refine lv_if_eq (tgt := 8) hx hb dX5_asInt_1 (by decide) (fun c1 => ?_) (fun c1 => ?_)
  · have hF := if_p c1 hF
    refine lv_iconst (v := 0) hx hb dX5_asInt_8 (by decide) ?_
    cases hF
    exact m_iret X hp dX5_asInt_9
  · have hF := if_n c1 hF
    refine lv_iconst (v := 1) hx hb dX5_asInt_4 (by decide) ?_
    refine lv_goto (tgt := 9) hx hb dX5_asInt_5 (by decide) ?_
    cases hF
    exact m_iret X hp dX5_asInt_9
end
section
variable {l : Launch} {D : va_G} {n0 : Nat} {P : mP} {S : mSh} {M : mMm} {n : Nat} {p : Program} {e : Env} {s : State} {m : MethodId} {args : Array Value} {below : List Frame} {meth : Method} {c : Code}
abbrev Rm_X5_copies : Room := { frames := 0, cells := 0, slots := 0, locals := 0 }
def fb_X5_copies_2 (S : mSh) : Nat → mMm → Nat → Nat → Int32 → Int32 → Option mMm
  | 0, _, _, _, _, _ => none
  | t + 1, M, x0, x1, x2, x3 => (if x2 ≤ x3 then some M else ob (aI S M x0 100 x3) fun v4 => ob (wA S M x1 100 x3 (.int v4)) fun M6 => nm (x3 + (1 : Int32)) fun v8 => (fb_X5_copies_2 S t M6 x0 x1 x2 v8))
theorem b_X5_copies_2 {M' : mMm} (X : mCx D n0 P p m c cX5_copies 4 s args yX5_copies.cls meth none) : ∀ t : Nat, ∀ (M : mMm) (x0 : Nat) (x1 : Nat) (x2 : Int32) (x3 : Int32) (H : Heap) (locs : List Loc) (ls : Array Slot), mHp D n0 S M n s H locs → lv_has ls 4 [(0, .ref x0), (1, .ref x1), (2, .int x2), (3, .int x3)] → fb_X5_copies_2 S t M x0 x1 x2 x3 = some M' → W p l e Rm_X5_copies s m args below meth c H locs 0 0 (MQ below (mQ D n0 none S M' n) args s 0 0 (mA n0)) (F0 m 2 ls []) := by
  have hx := X.1.1
  have hb := X.1.2.1
  have hown := X.1.2.2.2.1
  have hts := X.1.2.2.2.2
  intro t
  induction t with
  | zero =>
    intro M x0 x1 x2 x3 H locs ls hp hl hF
    have hF : none = some M' := hF
    cases hF
  | succ t ih =>
    intro M x0 x1 x2 x3 H locs ls hp hl hF
    rw [fb_X5_copies_2] at hF
    refine lv_iload_n hx hb dX5_copies_2 rfl (lv_at hl 3 rfl) ?_
    refine lv_iload_n hx hb dX5_copies_3 rfl (lv_at hl 2 rfl) ?_
    refine lv_icmp_ge (tgt := 19) hx hb dX5_copies_4 (by decide) (fun c3 => ?_) (fun c3 => ?_)
    · have hF := if_p c3 hF
      cases hF
      exact m_vret X hp dX5_copies_19
    · have hF := if_n c3 hF
      refine lv_aload_n hx hb dX5_copies_7 rfl (lv_at hl 1 rfl) ?_
      refine lv_iload_n hx hb dX5_copies_8 rfl (lv_at hl 3 rfl) ?_
      refine lv_aload_n hx hb dX5_copies_9 rfl (lv_at hl 0 rfl) ?_
      refine lv_iload_n hx hb dX5_copies_10 rfl (lv_at hl 3 rfl) ?_
      obtain ⟨v4, e5, hF⟩ := ob_s hF
      refine m_iaI X hp e5 dX5_copies_11 ?_
      obtain ⟨M6, e7, hF⟩ := ob_s hF
      refine m_iaW X hp e7 dX5_copies_12 (fun H locs hp => ?_)
      obtain ⟨v8, ev9⟩ : ∃ y : Int32, y = x3 + (1 : Int32) := ⟨_, rfl⟩
      have hF := nm_s hF ev9
      refine lv_iinc (v := v8) (lv' := [(3, .int v8), (0, .ref x0), (1, .ref x1), (2, .int x2)]) hx hb dX5_copies_13 hl (k := 3) rfl (by rw [ev9]; rfl) (by decide) rfl (fun ls hl => ?_)
      refine lv_goto (tgt := 2) hx hb dX5_copies_16 (by decide) ?_
      exact ih _ _ _ _ _ _ _ _ hp (lv_sub hl [1, 2, 3, 0] rfl) hF
def f_X5_copies (S : mSh) (M : mMm) (x0 : Nat) (x1 : Nat) (x2 : Int32) : Option mMm := nm ((0 : Int32)) fun v1 => (fb_X5_copies_2 S FU M x0 x1 x2 v1)
theorem w_X5_copies {x0 : Nat} {x1 : Nat} {x2 : Int32} {M' : mMm} (hF : f_X5_copies S M x0 x1 x2 = some M') : mCt l D n0 P yX5_copies cX5_copies 4 none 0 0 0 0 [.ref x0, .ref x1, .int x2] S M n none S M' n := by
  refine m_ofW (by decide) (Nat.le_of_ble_eq_true rfl) (fun p e s m below meth c X hnm hp ls hl => ?_)
  have hx := X.1.1
  have hb := X.1.2.1
  have hown := X.1.2.2.2.1
  have hts := X.1.2.2.2.2
  have hl : lv_has ls 4 [(0, .ref x0), (1, .ref x1), (2, .int x2)] := hl
  unfold f_X5_copies at hF
  refine lv_iconst (v := 0) hx hb dX5_copies_0 (by decide) ?_
  refine lv_topi (fun v1 ev2 => ?_)
  have hF := nm_s hF ev2
  refine lv_istore_n (lv' := [(3, .int v1), (0, .ref x0), (1, .ref x1), (2, .int x2)]) hx hb dX5_copies_1 rfl hl (by decide) rfl (fun ls hl => ?_)
  exact b_X5_copies_2 X _ _ _ _ _ _ _ _ _ hp (lv_sub hl [1, 2, 3, 0] rfl) hF
end
section
variable {l : Launch} {D : va_G} {n0 : Nat} {P : mP} {S : mSh} {M : mMm} {n : Nat} {p : Program} {e : Env} {s : State} {m : MethodId} {args : Array Value} {below : List Frame} {meth : Method} {c : Code}
abbrev Rm_X5_begins : Room := { frames := 1, cells := 0, slots := 0, locals := 23 }
def f_X5_begins (S : mSh) (M : mMm) (x0 : Nat) : Option mMm := ob (rR S M x0 6 0) fun v1 => ob (rR S M x0 6 1) fun v3 => ob (f_X5_copies S M v1 v3 (2425 : Int32)) fun M7 => ob (wF S M7 x0 6 6 (.int (0 : Int32))) fun M8 => some M8
theorem w_X5_begins {x0 : Nat} {M' : mMm} (hF : f_X5_begins S M x0 = some M') : mCt l D n0 P yX5_begins cX5_begins 1 none 1 23 0 0 [.ref x0] S M n none S M' n := by
  refine m_ofW (by decide) (Nat.le_of_ble_eq_true rfl) (fun p e s m below meth c X hnm hp ls hl => ?_)
  have hx := X.1.1
  have hb := X.1.2.1
  have hown := X.1.2.2.2.1
  have hts := X.1.2.2.2.2
  have hl : lv_has ls 1 [(0, .ref x0)] := hl
  unfold f_X5_begins at hF
  refine lv_aload_n hx hb dX5_begins_0 rfl (lv_at hl 0 rfl) ?_
  obtain ⟨v1, e2, hF⟩ := ob_s hF
  refine m_getR X hp e2 kX5 (Nat.le_of_ble_eq_true rfl) q1459 dX5_begins_1 ?_
  refine lv_aload_n hx hb dX5_begins_4 rfl (lv_at hl 0 rfl) ?_
  obtain ⟨v3, e4, hF⟩ := ob_s hF
  refine m_getR X hp e4 kX5 (Nat.le_of_ble_eq_true rfl) q1460 dX5_begins_5 ?_
  refine lv_sipush (v := 2425) hx hb dX5_begins_8 (by decide) ?_
  obtain ⟨M7, e5, hF⟩ := ob_s hF
  refine m_callS (As := [.ref v1, .ref v3, .int (2425 : Int32)]) (rest := []) X hp (w_X5_copies e5) q1595 q1596 q144 q1597 3 rfl ds_X5_copies ⟨Nat.le_of_ble_eq_true rfl, Nat.le_of_ble_eq_true rfl⟩ hl.1 rfl (Nat.le_of_ble_eq_true rfl) dX5_begins_11 ⟨Nat.le_refl 0, Nat.le_refl 0⟩ (fun H locs hp => ?_)
  refine lv_aload_n hx hb dX5_begins_14 rfl (lv_at hl 0 rfl) ?_
  refine lv_iconst (v := 0) hx hb dX5_begins_15 (by decide) ?_
  obtain ⟨M8, e9, hF⟩ := ob_s hF
  refine m_putW X hp e9 kX5 (Nat.le_of_ble_eq_true rfl) q1465 rfl rfl rfl dX5_begins_16 (fun H locs hp => ?_)
  cases hF
  exact m_vret X hp dX5_begins_19
end
section
variable {l : Launch} {D : va_G} {n0 : Nat} {P : mP} {S : mSh} {M : mMm} {n : Nat} {p : Program} {e : Env} {s : State} {m : MethodId} {args : Array Value} {below : List Frame} {meth : Method} {c : Code}
abbrev Rm_X5_bend : Room := { frames := 0, cells := 0, slots := 0, locals := 0 }
def fb_X5_bend_50 (x3 : Int32) (y0 : Int32) : Option Int32 := (if x3 < 0 then some (-1 : Int32) else (if 0 ≤ y0 then some (((61 : Int32) * y0) + x3) else some (-1 : Int32)))
theorem b_X5_bend_50 {r : Int32} (X : mCx D n0 P p m c cX5_bend 5 s args yX5_bend.cls meth (some .int)) : ∀ (x3 : Int32) (y0 : Int32) (H : Heap) (locs : List Loc) (ls : Array Slot), mHp D n0 S M n s H locs → lv_has ls 5 [(3, .int x3)] → fb_X5_bend_50 x3 y0 = some r → W p l e Rm_X5_bend s m args below meth c H locs 0 0 (MQ below (mQ D n0 (some (.int r)) S M n) args s 0 0 (mA n0)) (F0 m 50 ls [.int y0]) := by
  have hx := X.1.1
  have hb := X.1.2.1
  have hown := X.1.2.2.2.1
  have hts := X.1.2.2.2.2
  intro x3 y0 H locs ls hp hl hF
  unfold fb_X5_bend_50 at hF
  refine lv_istore (lv' := [(4, .int y0), (3, .int x3)]) hx hb dX5_bend_50 hl (by decide) rfl (fun ls hl => ?_)
  refine lv_iload_n hx hb dX5_bend_52 rfl (lv_at hl 1 rfl) ?_
  refine lv_if_lt (tgt := 61) hx hb dX5_bend_53 (by decide) (fun c5 => ?_) (fun c5 => ?_)
  · have hF := if_p c5 hF
    refine lv_iconst (v := -1) hx hb dX5_bend_61 (by decide) ?_
    refine lv_goto (tgt := 72) hx hb dX5_bend_62 (by decide) ?_
    cases hF
    exact m_iret X hp dX5_bend_72
  · have hF := if_n c5 hF
    refine lv_iload hx hb dX5_bend_56 (lv_at hl 0 rfl) ?_
    refine lv_if_ge (tgt := 65) hx hb dX5_bend_58 (by decide) (fun c6 => ?_) (fun c6 => ?_)
    · have hF := if_p c6 hF
      refine lv_bipush (v := 61) hx hb dX5_bend_65 (by decide) ?_
      refine lv_iload hx hb dX5_bend_67 (lv_at hl 0 rfl) ?_
      refine lv_imul hx hb dX5_bend_69 ?_
      refine lv_iload_n hx hb dX5_bend_70 rfl (lv_at hl 1 rfl) ?_
      refine lv_iadd hx hb dX5_bend_71 ?_
      cases hF
      exact m_iret X hp dX5_bend_72
    · have hF := if_n c6 hF
      refine lv_iconst (v := -1) hx hb dX5_bend_61 (by decide) ?_
      refine lv_goto (tgt := 72) hx hb dX5_bend_62 (by decide) ?_
      cases hF
      exact m_iret X hp dX5_bend_72
def fb_X5_bend_25 (x1 : Int32) (x2 : Int32) (y0 : Int32) : Option Int32 := (if x2 = 0 then (fb_X5_bend_50 y0 (x1 + (1 : Int32))) else (if x2 = (1 : Int32) then (fb_X5_bend_50 y0 (x1 - (1 : Int32))) else (fb_X5_bend_50 y0 (x1 - (2 : Int32)))))
theorem b_X5_bend_25 {r : Int32} (X : mCx D n0 P p m c cX5_bend 5 s args yX5_bend.cls meth (some .int)) : ∀ (x1 : Int32) (x2 : Int32) (y0 : Int32) (H : Heap) (locs : List Loc) (ls : Array Slot), mHp D n0 S M n s H locs → lv_has ls 5 [(1, .int x1), (2, .int x2)] → fb_X5_bend_25 x1 x2 y0 = some r → W p l e Rm_X5_bend s m args below meth c H locs 0 0 (MQ below (mQ D n0 (some (.int r)) S M n) args s 0 0 (mA n0)) (F0 m 25 ls [.int y0]) := by
  have hx := X.1.1
  have hb := X.1.2.1
  have hown := X.1.2.2.2.1
  have hts := X.1.2.2.2.2
  intro x1 x2 y0 H locs ls hp hl hF
  unfold fb_X5_bend_25 at hF
  refine lv_istore_n (lv' := [(3, .int y0), (1, .int x1), (2, .int x2)]) hx hb dX5_bend_25 rfl hl (by decide) rfl (fun ls hl => ?_)
  refine lv_iload_n hx hb dX5_bend_26 rfl (lv_at hl 2 rfl) ?_
  refine lv_if_ne (tgt := 36) hx hb dX5_bend_27 (by decide) (fun c3 => ?_) (fun c3 => ?_)
  · have hF := if_n c3 hF
    refine lv_iload_n hx hb dX5_bend_36 rfl (lv_at hl 2 rfl) ?_
    refine lv_iconst (v := 1) hx hb dX5_bend_37 (by decide) ?_
    refine lv_icmp_ne (tgt := 47) hx hb dX5_bend_38 (by decide) (fun c4 => ?_) (fun c4 => ?_)
    · have hF := if_n c4 hF
      refine lv_iload_n hx hb dX5_bend_47 rfl (lv_at hl 1 rfl) ?_
      refine lv_iconst (v := 2) hx hb dX5_bend_48 (by decide) ?_
      refine lv_isub hx hb dX5_bend_49 ?_
      exact b_X5_bend_50 X _ _ _ _ _ hp (lv_sub hl [0] rfl) hF
    · have hF := if_p c4 hF
      refine lv_iload_n hx hb dX5_bend_41 rfl (lv_at hl 1 rfl) ?_
      refine lv_iconst (v := 1) hx hb dX5_bend_42 (by decide) ?_
      refine lv_isub hx hb dX5_bend_43 ?_
      refine lv_goto (tgt := 50) hx hb dX5_bend_44 (by decide) ?_
      exact b_X5_bend_50 X _ _ _ _ _ hp (lv_sub hl [0] rfl) hF
  · have hF := if_p c3 hF
    refine lv_iload_n hx hb dX5_bend_30 rfl (lv_at hl 1 rfl) ?_
    refine lv_iconst (v := 1) hx hb dX5_bend_31 (by decide) ?_
    refine lv_iadd hx hb dX5_bend_32 ?_
    refine lv_goto (tgt := 50) hx hb dX5_bend_33 (by decide) ?_
    exact b_X5_bend_50 X _ _ _ _ _ hp (lv_sub hl [0] rfl) hF
def f_X5_bend (x0 : Int32) (x1 : Int32) (x2 : Int32) : Option Int32 := (if (2 : Int32) ≤ x2 then (if x2 = (2 : Int32) then (fb_X5_bend_25 x1 x2 (x0 + (1 : Int32))) else (fb_X5_bend_25 x1 x2 (x0 - (1 : Int32)))) else (fb_X5_bend_25 x1 x2 (x0 - (2 : Int32))))
theorem w_X5_bend {x0 : Int32} {x1 : Int32} {x2 : Int32} {r : Int32} (hF : f_X5_bend x0 x1 x2 = some r) : mCt l D n0 P yX5_bend cX5_bend 5 (some .int) 0 0 0 0 [.int x0, .int x1, .int x2] S M n (some (.int r)) S M n := by
  refine m_ofW (by decide) (Nat.le_of_ble_eq_true rfl) (fun p e s m below meth c X hnm hp ls hl => ?_)
  have hx := X.1.1
  have hb := X.1.2.1
  have hown := X.1.2.2.2.1
  have hts := X.1.2.2.2.2
  have hl : lv_has ls 5 [(0, .int x0), (1, .int x1), (2, .int x2)] := hl
  unfold f_X5_bend at hF
  refine lv_iload_n hx hb dX5_bend_0 rfl (lv_at hl 2 rfl) ?_
  refine lv_iconst (v := 2) hx hb dX5_bend_1 (by decide) ?_
  refine lv_icmp_ge (tgt := 11) hx hb dX5_bend_2 (by decide) (fun c1 => ?_) (fun c1 => ?_)
  · have hF := if_p c1 hF
    refine lv_iload_n hx hb dX5_bend_11 rfl (lv_at hl 2 rfl) ?_
    refine lv_iconst (v := 2) hx hb dX5_bend_12 (by decide) ?_
    refine lv_icmp_ne (tgt := 22) hx hb dX5_bend_13 (by decide) (fun c2 => ?_) (fun c2 => ?_)
    · have hF := if_n c2 hF
      refine lv_iload_n hx hb dX5_bend_22 rfl (lv_at hl 0 rfl) ?_
      refine lv_iconst (v := 1) hx hb dX5_bend_23 (by decide) ?_
      refine lv_isub hx hb dX5_bend_24 ?_
      exact b_X5_bend_25 X _ _ _ _ _ _ hp (lv_sub hl [1, 2] rfl) hF
    · have hF := if_p c2 hF
      refine lv_iload_n hx hb dX5_bend_16 rfl (lv_at hl 0 rfl) ?_
      refine lv_iconst (v := 1) hx hb dX5_bend_17 (by decide) ?_
      refine lv_iadd hx hb dX5_bend_18 ?_
      refine lv_goto (tgt := 25) hx hb dX5_bend_19 (by decide) ?_
      exact b_X5_bend_25 X _ _ _ _ _ _ hp (lv_sub hl [1, 2] rfl) hF
  · have hF := if_n c1 hF
    refine lv_iload_n hx hb dX5_bend_5 rfl (lv_at hl 0 rfl) ?_
    refine lv_iconst (v := 2) hx hb dX5_bend_6 (by decide) ?_
    refine lv_isub hx hb dX5_bend_7 ?_
    refine lv_goto (tgt := 25) hx hb dX5_bend_8 (by decide) ?_
    exact b_X5_bend_25 X _ _ _ _ _ _ hp (lv_sub hl [1, 2] rfl) hF
end
section
variable {l : Launch} {D : va_G} {n0 : Nat} {P : mP} {S : mSh} {M : mMm} {n : Nat} {p : Program} {e : Env} {s : State} {m : MethodId} {args : Array Value} {below : List Frame} {meth : Method} {c : Code}
abbrev Rm_X5_onBy : Room := { frames := 2, cells := 0, slots := 0, locals := 43 }
def f_X5_onBy (S : mSh) (M : mMm) (x0 : Nat) (x1 : Int32) (x2 : Int32) (x3 : Int32) : Option Int32 := ob (f_X5_goesX x2) fun v2 => nm (((x1 - x1 / (12 : Int32) * (12 : Int32)) + (x3 * v2))) fun v3 => ob (f_X5_goesY x2) fun v6 => nm (((x1 / (12 : Int32)) + (x3 * v6))) fun v7 => ob (f_X5_isIn v3 v7) fun v10 => (if v10 = 0 then some (-1 : Int32) else ob (rR S M x0 6 0) fun v12 => ob (f_X5_place v3 v7) fun v15 => ob (aI S M v12 100 v15) fun v16 => (if v16 = (1 : Int32) then some (-1 : Int32) else ob (f_X5_place v3 v7) fun v20 => some v20))
theorem w_X5_onBy {x0 : Nat} {x1 : Int32} {x2 : Int32} {x3 : Int32} {r : Int32} (hF : f_X5_onBy S M x0 x1 x2 x3 = some r) : mCt l D n0 P yX5_onBy cX5_onBy 6 (some .int) 2 43 0 0 [.ref x0, .int x1, .int x2, .int x3] S M n (some (.int r)) S M n := by
  refine m_ofW (by decide) (Nat.le_of_ble_eq_true rfl) (fun p e s m below meth c X hnm hp ls hl => ?_)
  have hx := X.1.1
  have hb := X.1.2.1
  have hown := X.1.2.2.2.1
  have hts := X.1.2.2.2.2
  have hl : lv_has ls 6 [(0, .ref x0), (1, .int x1), (2, .int x2), (3, .int x3)] := hl
  unfold f_X5_onBy at hF
  refine lv_iload_n hx hb dX5_onBy_0 rfl (lv_at hl 1 rfl) ?_
  refine lv_bipush (v := 12) hx hb dX5_onBy_1 (by decide) ?_
  refine lv_irem hx hb dX5_onBy_3 (by decide) ?_
  refine lv_iload_n hx hb dX5_onBy_4 rfl (lv_at hl 3 rfl) ?_
  refine lv_iload_n hx hb dX5_onBy_5 rfl (lv_at hl 2 rfl) ?_
  obtain ⟨v2, e1, hF⟩ := ob_s hF
  refine m_callS (As := [.int x2]) (rest := [.int x3, .int (x1 - x1 / (12 : Int32) * (12 : Int32))]) X hp (w_X5_goesX e1) q1762 q1763 q144 q1764 1 rfl ds_X5_goesX ⟨Nat.le_of_ble_eq_true rfl, Nat.le_of_ble_eq_true rfl⟩ hl.1 rfl (Nat.le_of_ble_eq_true rfl) dX5_onBy_6 ⟨Nat.le_refl 0, Nat.le_refl 0⟩ (fun H locs hp => ?_)
  refine lv_imul hx hb dX5_onBy_9 ?_
  refine lv_iadd hx hb dX5_onBy_10 ?_
  refine lv_topi (fun v3 ev4 => ?_)
  have hF := nm_s hF ev4
  refine lv_istore (lv' := [(4, .int v3), (0, .ref x0), (1, .int x1), (2, .int x2), (3, .int x3)]) hx hb dX5_onBy_11 hl (by decide) rfl (fun ls hl => ?_)
  refine lv_iload_n hx hb dX5_onBy_13 rfl (lv_at hl 2 rfl) ?_
  refine lv_bipush (v := 12) hx hb dX5_onBy_14 (by decide) ?_
  refine lv_idiv hx hb dX5_onBy_16 (by decide) ?_
  refine lv_iload_n hx hb dX5_onBy_17 rfl (lv_at hl 4 rfl) ?_
  refine lv_iload_n hx hb dX5_onBy_18 rfl (lv_at hl 3 rfl) ?_
  obtain ⟨v6, e5, hF⟩ := ob_s hF
  refine m_callS (As := [.int x2]) (rest := [.int x3, .int (x1 / (12 : Int32))]) X hp (w_X5_goesY e5) q1765 q1766 q144 q1767 1 rfl ds_X5_goesY ⟨Nat.le_of_ble_eq_true rfl, Nat.le_of_ble_eq_true rfl⟩ hl.1 rfl (Nat.le_of_ble_eq_true rfl) dX5_onBy_19 ⟨Nat.le_refl 0, Nat.le_refl 0⟩ (fun H locs hp => ?_)
  refine lv_imul hx hb dX5_onBy_22 ?_
  refine lv_iadd hx hb dX5_onBy_23 ?_
  refine lv_topi (fun v7 ev8 => ?_)
  have hF := nm_s hF ev8
  refine lv_istore (lv' := [(5, .int v7), (4, .int v3), (0, .ref x0), (1, .int x1), (2, .int x2), (3, .int x3)]) hx hb dX5_onBy_24 hl (by decide) rfl (fun ls hl => ?_)
  refine lv_iload hx hb dX5_onBy_26 (lv_at hl 1 rfl) ?_
  refine lv_iload hx hb dX5_onBy_28 (lv_at hl 0 rfl) ?_
  obtain ⟨v10, e9, hF⟩ := ob_s hF
  refine m_callS (As := [.int v3, .int v7]) (rest := []) X hp (w_X5_isIn e9) q1768 q1769 q144 q1770 2 rfl ds_X5_isIn ⟨Nat.le_of_ble_eq_true rfl, Nat.le_of_ble_eq_true rfl⟩ hl.1 rfl (Nat.le_of_ble_eq_true rfl) dX5_onBy_30 ⟨Nat.le_refl 0, Nat.le_refl 0⟩ (fun H locs hp => ?_)
  refine lv_if_eq (tgt := 62) hx hb dX5_onBy_33 (by decide) (fun c11 => ?_) (fun c11 => ?_)
  · have hF := if_p c11 hF
    refine lv_iconst (v := -1) hx hb dX5_onBy_62 (by decide) ?_
    cases hF
    exact m_iret X hp dX5_onBy_63
  · have hF := if_n c11 hF
    refine lv_aload_n hx hb dX5_onBy_36 rfl (lv_at hl 2 rfl) ?_
    obtain ⟨v12, e13, hF⟩ := ob_s hF
    refine m_getR X hp e13 kX5 (Nat.le_of_ble_eq_true rfl) q1459 dX5_onBy_37 ?_
    refine lv_iload hx hb dX5_onBy_40 (lv_at hl 1 rfl) ?_
    refine lv_iload hx hb dX5_onBy_42 (lv_at hl 0 rfl) ?_
    obtain ⟨v15, e14, hF⟩ := ob_s hF
    refine m_callS (As := [.int v3, .int v7]) (rest := [.ref v12]) X hp (w_X5_place e14) q1708 q1709 q144 q1710 2 rfl ds_X5_place ⟨Nat.le_of_ble_eq_true rfl, Nat.le_of_ble_eq_true rfl⟩ hl.1 rfl (Nat.le_of_ble_eq_true rfl) dX5_onBy_44 ⟨Nat.le_refl 0, Nat.le_refl 0⟩ (fun H locs hp => ?_)
    obtain ⟨v16, e17, hF⟩ := ob_s hF
    refine m_iaI X hp e17 dX5_onBy_47 ?_
    refine lv_iconst (v := 1) hx hb dX5_onBy_48 (by decide) ?_
    refine lv_icmp_eq (tgt := 62) hx hb dX5_onBy_49 (by decide) (fun c18 => ?_) (fun c18 => ?_)
    · have hF := if_p c18 hF
      refine lv_iconst (v := -1) hx hb dX5_onBy_62 (by decide) ?_
      cases hF
      exact m_iret X hp dX5_onBy_63
    · have hF := if_n c18 hF
      refine lv_iload hx hb dX5_onBy_52 (lv_at hl 1 rfl) ?_
      refine lv_iload hx hb dX5_onBy_54 (lv_at hl 0 rfl) ?_
      obtain ⟨v20, e19, hF⟩ := ob_s hF
      refine m_callS (As := [.int v3, .int v7]) (rest := []) X hp (w_X5_place e19) q1708 q1709 q144 q1710 2 rfl ds_X5_place ⟨Nat.le_of_ble_eq_true rfl, Nat.le_of_ble_eq_true rfl⟩ hl.1 rfl (Nat.le_of_ble_eq_true rfl) dX5_onBy_56 ⟨Nat.le_refl 0, Nat.le_refl 0⟩ (fun H locs hp => ?_)
      refine lv_goto (tgt := 63) hx hb dX5_onBy_59 (by decide) ?_
      cases hF
      exact m_iret X hp dX5_onBy_63
end
section
variable {l : Launch} {D : va_G} {n0 : Nat} {P : mP} {S : mSh} {M : mMm} {n : Nat} {p : Program} {e : Env} {s : State} {m : MethodId} {args : Array Value} {below : List Frame} {meth : Method} {c : Code}
abbrev Rm_X5_besideOne : Room := { frames := 3, cells := 0, slots := 0, locals := 68 }
def fb_X5_besideOne_26 (S : mSh) (M : mMm) (k4 : Nat → Int32 → Int32 → Int32 → Option Int32) (x0 : Nat) (x1 : Int32) (x3 : Int32) (y0 : Int32) (y1 : Int32) : Option Int32 := nm ((y1 + y0)) fun v10 => nm (x3 + (1 : Int32)) fun v12 => (k4 x0 x1 v10 v12)
theorem b_X5_besideOne_26 {r : Int32} (X : mCx D n0 P p m c cX5_besideOne 4 s args yX5_besideOne.cls meth (some .int)) (k4 : Nat → Int32 → Int32 → Int32 → Option Int32) (hk4 : ∀ (x0 : Nat) (x1 : Int32) (x2 : Int32) (x3 : Int32) (H : Heap) (locs : List Loc) (ls : Array Slot), mHp D n0 S M n s H locs → lv_has ls 4 [(0, .ref x0), (1, .int x1), (2, .int x2), (3, .int x3)] → k4 x0 x1 x2 x3 = some r → W p l e Rm_X5_besideOne s m args below meth c H locs 0 0 (MQ below (mQ D n0 (some (.int r)) S M n) args s 0 0 (mA n0)) (F0 m 4 ls [])) : ∀ (x0 : Nat) (x1 : Int32) (x3 : Int32) (y0 : Int32) (y1 : Int32) (H : Heap) (locs : List Loc) (ls : Array Slot), mHp D n0 S M n s H locs → lv_has ls 4 [(0, .ref x0), (1, .int x1), (3, .int x3)] → fb_X5_besideOne_26 S M k4 x0 x1 x3 y0 y1 = some r → W p l e Rm_X5_besideOne s m args below meth c H locs 0 0 (MQ below (mQ D n0 (some (.int r)) S M n) args s 0 0 (mA n0)) (F0 m 26 ls [.int y0, .int y1]) := by
  have hx := X.1.1
  have hb := X.1.2.1
  have hown := X.1.2.2.2.1
  have hts := X.1.2.2.2.2
  intro x0 x1 x3 y0 y1 H locs ls hp hl hF
  unfold fb_X5_besideOne_26 at hF
  refine lv_iadd hx hb dX5_besideOne_26 ?_
  refine lv_topi (fun v10 ev11 => ?_)
  have hF := nm_s hF ev11
  refine lv_istore_n (lv' := [(2, .int v10), (0, .ref x0), (1, .int x1), (3, .int x3)]) hx hb dX5_besideOne_27 rfl hl (by decide) rfl (fun ls hl => ?_)
  obtain ⟨v12, ev13⟩ : ∃ y : Int32, y = x3 + (1 : Int32) := ⟨_, rfl⟩
  have hF := nm_s hF ev13
  refine lv_iinc (v := v12) (lv' := [(3, .int v12), (2, .int v10), (0, .ref x0), (1, .int x1)]) hx hb dX5_besideOne_28 hl (k := 3) rfl (by rw [ev13]; rfl) (by decide) rfl (fun ls hl => ?_)
  refine lv_goto (tgt := 4) hx hb dX5_besideOne_31 (by decide) ?_
  exact hk4 _ _ _ _ _ _ _ hp (lv_sub hl [2, 3, 1, 0] rfl) hF
def fb_X5_besideOne_4 (S : mSh) (M : mMm) : Nat → Nat → Int32 → Int32 → Int32 → Option Int32
  | 0, _, _, _, _ => none
  | t + 1, x0, x1, x2, x3 => (if (4 : Int32) ≤ x3 then some x2 else gd ((S x0).1 = 6) (ob (f_X5_onBy S M x0 x1 x3 (1 : Int32)) fun v8 => (if v8 = (-1 : Int32) then (fb_X5_besideOne_26 S M (fb_X5_besideOne_4 S M t) x0 x1 x3 (0 : Int32) x2) else (fb_X5_besideOne_26 S M (fb_X5_besideOne_4 S M t) x0 x1 x3 (1 : Int32) x2))))
theorem b_X5_besideOne_4 {r : Int32} (X : mCx D n0 P p m c cX5_besideOne 4 s args yX5_besideOne.cls meth (some .int)) : ∀ t : Nat, ∀ (x0 : Nat) (x1 : Int32) (x2 : Int32) (x3 : Int32) (H : Heap) (locs : List Loc) (ls : Array Slot), mHp D n0 S M n s H locs → lv_has ls 4 [(0, .ref x0), (1, .int x1), (2, .int x2), (3, .int x3)] → fb_X5_besideOne_4 S M t x0 x1 x2 x3 = some r → W p l e Rm_X5_besideOne s m args below meth c H locs 0 0 (MQ below (mQ D n0 (some (.int r)) S M n) args s 0 0 (mA n0)) (F0 m 4 ls []) := by
  have hx := X.1.1
  have hb := X.1.2.1
  have hown := X.1.2.2.2.1
  have hts := X.1.2.2.2.2
  intro t
  induction t with
  | zero =>
    intro x0 x1 x2 x3 H locs ls hp hl hF
    have hF : none = some r := hF
    cases hF
  | succ t ih =>
    intro x0 x1 x2 x3 H locs ls hp hl hF
    rw [fb_X5_besideOne_4] at hF
    refine lv_iload_n hx hb dX5_besideOne_4 rfl (lv_at hl 3 rfl) ?_
    refine lv_iconst (v := 4) hx hb dX5_besideOne_5 (by decide) ?_
    refine lv_icmp_ge (tgt := 34) hx hb dX5_besideOne_6 (by decide) (fun c5 => ?_) (fun c5 => ?_)
    · have hF := if_p c5 hF
      refine lv_iload_n hx hb dX5_besideOne_34 rfl (lv_at hl 2 rfl) ?_
      cases hF
      exact m_iret X hp dX5_besideOne_35
    · have hF := if_n c5 hF
      refine lv_iload_n hx hb dX5_besideOne_9 rfl (lv_at hl 2 rfl) ?_
      refine lv_aload_n hx hb dX5_besideOne_10 rfl (lv_at hl 0 rfl) ?_
      refine lv_iload_n hx hb dX5_besideOne_11 rfl (lv_at hl 1 rfl) ?_
      refine lv_iload_n hx hb dX5_besideOne_12 rfl (lv_at hl 3 rfl) ?_
      refine lv_iconst (v := 1) hx hb dX5_besideOne_13 (by decide) ?_
      obtain ⟨g6, hF⟩ := gd_s hF
      obtain ⟨v8, e7, hF⟩ := ob_s hF
      refine m_callV (As := [.int x1, .int x3, .int (1 : Int32)]) (rest := [.int x2]) X hp (w_X5_onBy e7) q1915 q1917 qs116 q144 q1918 3 rfl ds_X5_onBy ⟨Nat.le_of_ble_eq_true rfl, Nat.le_of_ble_eq_true rfl⟩ 6 (T := TX5) (N := 40) rfl (by decide) g6 hl.1 rfl (Nat.le_of_ble_eq_true rfl) dX5_besideOne_14 ⟨Nat.le_refl 0, Nat.le_refl 0⟩ (fun H locs hp => ?_)
      refine lv_iconst (v := -1) hx hb dX5_besideOne_17 (by decide) ?_
      refine lv_icmp_ne (tgt := 25) hx hb dX5_besideOne_18 (by decide) (fun c9 => ?_) (fun c9 => ?_)
      · have hF := if_n c9 hF
        refine lv_iconst (v := 1) hx hb dX5_besideOne_25 (by decide) ?_
        exact b_X5_besideOne_26 X _ ih _ _ _ _ _ _ _ _ hp (lv_sub hl [0, 1, 3] rfl) hF
      · have hF := if_p c9 hF
        refine lv_iconst (v := 0) hx hb dX5_besideOne_21 (by decide) ?_
        refine lv_goto (tgt := 26) hx hb dX5_besideOne_22 (by decide) ?_
        exact b_X5_besideOne_26 X _ ih _ _ _ _ _ _ _ _ hp (lv_sub hl [0, 1, 3] rfl) hF
def f_X5_besideOne (S : mSh) (M : mMm) (x0 : Nat) (x1 : Int32) : Option Int32 := nm ((0 : Int32)) fun v1 => nm ((0 : Int32)) fun v3 => (fb_X5_besideOne_4 S M FU x0 x1 v1 v3)
theorem w_X5_besideOne {x0 : Nat} {x1 : Int32} {r : Int32} (hF : f_X5_besideOne S M x0 x1 = some r) : mCt l D n0 P yX5_besideOne cX5_besideOne 4 (some .int) 3 68 0 0 [.ref x0, .int x1] S M n (some (.int r)) S M n := by
  refine m_ofW (by decide) (Nat.le_of_ble_eq_true rfl) (fun p e s m below meth c X hnm hp ls hl => ?_)
  have hx := X.1.1
  have hb := X.1.2.1
  have hown := X.1.2.2.2.1
  have hts := X.1.2.2.2.2
  have hl : lv_has ls 4 [(0, .ref x0), (1, .int x1)] := hl
  unfold f_X5_besideOne at hF
  refine lv_iconst (v := 0) hx hb dX5_besideOne_0 (by decide) ?_
  refine lv_topi (fun v1 ev2 => ?_)
  have hF := nm_s hF ev2
  refine lv_istore_n (lv' := [(2, .int v1), (0, .ref x0), (1, .int x1)]) hx hb dX5_besideOne_1 rfl hl (by decide) rfl (fun ls hl => ?_)
  refine lv_iconst (v := 0) hx hb dX5_besideOne_2 (by decide) ?_
  refine lv_topi (fun v3 ev4 => ?_)
  have hF := nm_s hF ev4
  refine lv_istore_n (lv' := [(3, .int v3), (2, .int v1), (0, .ref x0), (1, .int x1)]) hx hb dX5_besideOne_3 rfl hl (by decide) rfl (fun ls hl => ?_)
  exact b_X5_besideOne_4 X _ _ _ _ _ _ _ _ hp (lv_sub hl [2, 3, 1, 0] rfl) hF
end
section
variable {l : Launch} {D : va_G} {n0 : Nat} {P : mP} {S : mSh} {M : mMm} {n : Nat} {p : Program} {e : Env} {s : State} {m : MethodId} {args : Array Value} {below : List Frame} {meth : Method} {c : Code}
abbrev Rm_X5_book : Room := { frames := 1, cells := 0, slots := 0, locals := 22 }
def f_X5_book (S : mSh) (M : mMm) (x0 : Nat) (x1 : Int32) (x2 : Int32) : Option Int32 := ob (rR S M x0 6 0) fun v1 => ob (aI S M v1 100 (939 : Int32)) fun v3 => ob (f_X5_within x1 (0 : Int32) (v3 - (1 : Int32))) fun v6 => (if v6 = 0 then some (-1 : Int32) else ob (f_X5_within x2 (0 : Int32) (3 : Int32)) fun v9 => (if v9 = 0 then some (-1 : Int32) else ob (rR S M x0 6 0) fun v11 => ob (aI S M v11 100 (((336 : Int32) + ((4 : Int32) * x1)) + x2)) fun v13 => some v13))
theorem w_X5_book {x0 : Nat} {x1 : Int32} {x2 : Int32} {r : Int32} (hF : f_X5_book S M x0 x1 x2 = some r) : mCt l D n0 P yX5_book cX5_book 3 (some .int) 1 22 0 0 [.ref x0, .int x1, .int x2] S M n (some (.int r)) S M n := by
  refine m_ofW (by decide) (Nat.le_of_ble_eq_true rfl) (fun p e s m below meth c X hnm hp ls hl => ?_)
  have hx := X.1.1
  have hb := X.1.2.1
  have hown := X.1.2.2.2.1
  have hts := X.1.2.2.2.2
  have hl : lv_has ls 3 [(0, .ref x0), (1, .int x1), (2, .int x2)] := hl
  unfold f_X5_book at hF
  refine lv_iload_n hx hb dX5_book_0 rfl (lv_at hl 1 rfl) ?_
  refine lv_iconst (v := 0) hx hb dX5_book_1 (by decide) ?_
  refine lv_aload_n hx hb dX5_book_2 rfl (lv_at hl 0 rfl) ?_
  obtain ⟨v1, e2, hF⟩ := ob_s hF
  refine m_getR X hp e2 kX5 (Nat.le_of_ble_eq_true rfl) q1459 dX5_book_3 ?_
  refine lv_sipush (v := 939) hx hb dX5_book_6 (by decide) ?_
  obtain ⟨v3, e4, hF⟩ := ob_s hF
  refine m_iaI X hp e4 dX5_book_9 ?_
  refine lv_iconst (v := 1) hx hb dX5_book_10 (by decide) ?_
  refine lv_isub hx hb dX5_book_11 ?_
  obtain ⟨v6, e5, hF⟩ := ob_s hF
  refine m_callS (As := [.int x1, .int (0 : Int32), .int (v3 - (1 : Int32))]) (rest := []) X hp (w_X5_within e5) q1588 q1589 q144 q1590 3 rfl ds_X5_within ⟨Nat.le_of_ble_eq_true rfl, Nat.le_of_ble_eq_true rfl⟩ hl.1 rfl (Nat.le_of_ble_eq_true rfl) dX5_book_12 ⟨Nat.le_refl 0, Nat.le_refl 0⟩ (fun H locs hp => ?_)
  refine lv_if_eq (tgt := 44) hx hb dX5_book_15 (by decide) (fun c7 => ?_) (fun c7 => ?_)
  · have hF := if_p c7 hF
    refine lv_iconst (v := -1) hx hb dX5_book_44 (by decide) ?_
    cases hF
    exact m_iret X hp dX5_book_45
  · have hF := if_n c7 hF
    refine lv_iload_n hx hb dX5_book_18 rfl (lv_at hl 2 rfl) ?_
    refine lv_iconst (v := 0) hx hb dX5_book_19 (by decide) ?_
    refine lv_iconst (v := 3) hx hb dX5_book_20 (by decide) ?_
    obtain ⟨v9, e8, hF⟩ := ob_s hF
    refine m_callS (As := [.int x2, .int (0 : Int32), .int (3 : Int32)]) (rest := []) X hp (w_X5_within e8) q1588 q1589 q144 q1590 3 rfl ds_X5_within ⟨Nat.le_of_ble_eq_true rfl, Nat.le_of_ble_eq_true rfl⟩ hl.1 rfl (Nat.le_of_ble_eq_true rfl) dX5_book_21 ⟨Nat.le_refl 0, Nat.le_refl 0⟩ (fun H locs hp => ?_)
    refine lv_if_eq (tgt := 44) hx hb dX5_book_24 (by decide) (fun c10 => ?_) (fun c10 => ?_)
    · have hF := if_p c10 hF
      refine lv_iconst (v := -1) hx hb dX5_book_44 (by decide) ?_
      cases hF
      exact m_iret X hp dX5_book_45
    · have hF := if_n c10 hF
      refine lv_aload_n hx hb dX5_book_27 rfl (lv_at hl 0 rfl) ?_
      obtain ⟨v11, e12, hF⟩ := ob_s hF
      refine m_getR X hp e12 kX5 (Nat.le_of_ble_eq_true rfl) q1459 dX5_book_28 ?_
      refine lv_sipush (v := 336) hx hb dX5_book_31 (by decide) ?_
      refine lv_iconst (v := 4) hx hb dX5_book_34 (by decide) ?_
      refine lv_iload_n hx hb dX5_book_35 rfl (lv_at hl 1 rfl) ?_
      refine lv_imul hx hb dX5_book_36 ?_
      refine lv_iadd hx hb dX5_book_37 ?_
      refine lv_iload_n hx hb dX5_book_38 rfl (lv_at hl 2 rfl) ?_
      refine lv_iadd hx hb dX5_book_39 ?_
      obtain ⟨v13, e14, hF⟩ := ob_s hF
      refine m_iaI X hp e14 dX5_book_40 ?_
      refine lv_goto (tgt := 45) hx hb dX5_book_41 (by decide) ?_
      cases hF
      exact m_iret X hp dX5_book_45
end
section
variable {l : Launch} {D : va_G} {n0 : Nat} {P : mP} {S : mSh} {M : mMm} {n : Nat} {p : Program} {e : Env} {s : State} {m : MethodId} {args : Array Value} {below : List Frame} {meth : Method} {c : Code}
abbrev Rm_X5_both : Room := { frames := 1, cells := 0, slots := 0, locals := 20 }
def fb_X5_both_86 (y0 : Int32) : Option Int32 := ob (f_X5_asInt y0) fun v14 => some v14
theorem b_X5_both_86 {r : Int32} (X : mCx D n0 P p m c cX5_both 3 s args yX5_both.cls meth (some .int)) : ∀ (y0 : Int32) (H : Heap) (locs : List Loc) (ls : Array Slot), mHp D n0 S M n s H locs → lv_has ls 3 [] → fb_X5_both_86 y0 = some r → W p l e Rm_X5_both s m args below meth c H locs 0 0 (MQ below (mQ D n0 (some (.int r)) S M n) args s 0 0 (mA n0)) (F0 m 86 ls [.int y0]) := by
  have hx := X.1.1
  have hb := X.1.2.1
  have hown := X.1.2.2.2.1
  have hts := X.1.2.2.2.2
  intro y0 H locs ls hp hl hF
  unfold fb_X5_both_86 at hF
  obtain ⟨v14, e13, hF⟩ := ob_s hF
  refine m_callS (As := [.int y0]) (rest := []) X hp (w_X5_asInt e13) q1802 q1803 q144 q1804 1 rfl ds_X5_asInt ⟨Nat.le_of_ble_eq_true rfl, Nat.le_of_ble_eq_true rfl⟩ hl.1 rfl (Nat.le_of_ble_eq_true rfl) dX5_both_86 ⟨Nat.le_refl 0, Nat.le_refl 0⟩ (fun H locs hp => ?_)
  cases hF
  exact m_iret X hp dX5_both_89
def fb_X5_both_122 (y0 : Int32) : Option Int32 := ob (f_X5_asInt y0) fun v16 => some v16
theorem b_X5_both_122 {r : Int32} (X : mCx D n0 P p m c cX5_both 3 s args yX5_both.cls meth (some .int)) : ∀ (y0 : Int32) (H : Heap) (locs : List Loc) (ls : Array Slot), mHp D n0 S M n s H locs → lv_has ls 3 [] → fb_X5_both_122 y0 = some r → W p l e Rm_X5_both s m args below meth c H locs 0 0 (MQ below (mQ D n0 (some (.int r)) S M n) args s 0 0 (mA n0)) (F0 m 122 ls [.int y0]) := by
  have hx := X.1.1
  have hb := X.1.2.1
  have hown := X.1.2.2.2.1
  have hts := X.1.2.2.2.2
  intro y0 H locs ls hp hl hF
  unfold fb_X5_both_122 at hF
  obtain ⟨v16, e15, hF⟩ := ob_s hF
  refine m_callS (As := [.int y0]) (rest := []) X hp (w_X5_asInt e15) q1802 q1803 q144 q1804 1 rfl ds_X5_asInt ⟨Nat.le_of_ble_eq_true rfl, Nat.le_of_ble_eq_true rfl⟩ hl.1 rfl (Nat.le_of_ble_eq_true rfl) dX5_both_122 ⟨Nat.le_refl 0, Nat.le_refl 0⟩ (fun H locs hp => ?_)
  cases hF
  exact m_iret X hp dX5_both_125
def f_X5_both (x0 : Int32) (x1 : Int32) (x2 : Int32) : Option Int32 := (if (6 : Int32) ≤ x0 then (if (9 : Int32) ≤ x0 then (if x0 = (10 : Int32) then (if (x1 + x2) = (2 : Int32) then (fb_X5_both_122  (1 : Int32)) else (fb_X5_both_122  (0 : Int32))) else (if (x1 + x2) ≤ 0 then (fb_X5_both_122  (0 : Int32)) else (fb_X5_both_122  (1 : Int32)))) else (if x0 = (6 : Int32) then (if x2 ≤ x1 then (fb_X5_both_86  (0 : Int32)) else (fb_X5_both_86  (1 : Int32))) else (if x0 = (7 : Int32) then (if x1 = x2 then (fb_X5_both_86  (1 : Int32)) else (fb_X5_both_86  (0 : Int32))) else (if x1 ≤ x2 then (fb_X5_both_86  (0 : Int32)) else (fb_X5_both_86  (1 : Int32)))))) else (if x0 = (2 : Int32) then some (x1 + x2) else (if x0 = (3 : Int32) then some (x1 - x2) else some (x1 * x2))))
theorem w_X5_both {x0 : Int32} {x1 : Int32} {x2 : Int32} {r : Int32} (hF : f_X5_both x0 x1 x2 = some r) : mCt l D n0 P yX5_both cX5_both 3 (some .int) 1 20 0 0 [.int x0, .int x1, .int x2] S M n (some (.int r)) S M n := by
  refine m_ofW (by decide) (Nat.le_of_ble_eq_true rfl) (fun p e s m below meth c X hnm hp ls hl => ?_)
  have hx := X.1.1
  have hb := X.1.2.1
  have hown := X.1.2.2.2.1
  have hts := X.1.2.2.2.2
  have hl : lv_has ls 3 [(0, .int x0), (1, .int x1), (2, .int x2)] := hl
  unfold f_X5_both at hF
  refine lv_iload_n hx hb dX5_both_0 rfl (lv_at hl 0 rfl) ?_
  refine lv_bipush (v := 6) hx hb dX5_both_1 (by decide) ?_
  refine lv_icmp_ge (tgt := 32) hx hb dX5_both_3 (by decide) (fun c1 => ?_) (fun c1 => ?_)
  · have hF := if_p c1 hF
    refine lv_iload_n hx hb dX5_both_32 rfl (lv_at hl 0 rfl) ?_
    refine lv_bipush (v := 9) hx hb dX5_both_33 (by decide) ?_
    refine lv_icmp_ge (tgt := 90) hx hb dX5_both_35 (by decide) (fun c2 => ?_) (fun c2 => ?_)
    · have hF := if_p c2 hF
      refine lv_iload_n hx hb dX5_both_90 rfl (lv_at hl 0 rfl) ?_
      refine lv_bipush (v := 10) hx hb dX5_both_91 (by decide) ?_
      refine lv_icmp_ne (tgt := 111) hx hb dX5_both_93 (by decide) (fun c3 => ?_) (fun c3 => ?_)
      · have hF := if_n c3 hF
        refine lv_iload_n hx hb dX5_both_111 rfl (lv_at hl 1 rfl) ?_
        refine lv_iload_n hx hb dX5_both_112 rfl (lv_at hl 2 rfl) ?_
        refine lv_iadd hx hb dX5_both_113 ?_
        refine lv_if_le (tgt := 121) hx hb dX5_both_114 (by decide) (fun c4 => ?_) (fun c4 => ?_)
        · have hF := if_p c4 hF
          refine lv_iconst (v := 0) hx hb dX5_both_121 (by decide) ?_
          exact b_X5_both_122 X  _ _ _ _ hp (lv_sub hl [] rfl) hF
        · have hF := if_n c4 hF
          refine lv_iconst (v := 1) hx hb dX5_both_117 (by decide) ?_
          refine lv_goto (tgt := 122) hx hb dX5_both_118 (by decide) ?_
          exact b_X5_both_122 X  _ _ _ _ hp (lv_sub hl [] rfl) hF
      · have hF := if_p c3 hF
        refine lv_iload_n hx hb dX5_both_96 rfl (lv_at hl 1 rfl) ?_
        refine lv_iload_n hx hb dX5_both_97 rfl (lv_at hl 2 rfl) ?_
        refine lv_iadd hx hb dX5_both_98 ?_
        refine lv_iconst (v := 2) hx hb dX5_both_99 (by decide) ?_
        refine lv_icmp_ne (tgt := 107) hx hb dX5_both_100 (by decide) (fun c5 => ?_) (fun c5 => ?_)
        · have hF := if_n c5 hF
          refine lv_iconst (v := 0) hx hb dX5_both_107 (by decide) ?_
          refine lv_goto (tgt := 122) hx hb dX5_both_108 (by decide) ?_
          exact b_X5_both_122 X  _ _ _ _ hp (lv_sub hl [] rfl) hF
        · have hF := if_p c5 hF
          refine lv_iconst (v := 1) hx hb dX5_both_103 (by decide) ?_
          refine lv_goto (tgt := 122) hx hb dX5_both_104 (by decide) ?_
          exact b_X5_both_122 X  _ _ _ _ hp (lv_sub hl [] rfl) hF
    · have hF := if_n c2 hF
      refine lv_iload_n hx hb dX5_both_38 rfl (lv_at hl 0 rfl) ?_
      refine lv_bipush (v := 6) hx hb dX5_both_39 (by decide) ?_
      refine lv_icmp_ne (tgt := 57) hx hb dX5_both_41 (by decide) (fun c6 => ?_) (fun c6 => ?_)
      · have hF := if_n c6 hF
        refine lv_iload_n hx hb dX5_both_57 rfl (lv_at hl 0 rfl) ?_
        refine lv_bipush (v := 7) hx hb dX5_both_58 (by decide) ?_
        refine lv_icmp_ne (tgt := 76) hx hb dX5_both_60 (by decide) (fun c7 => ?_) (fun c7 => ?_)
        · have hF := if_n c7 hF
          refine lv_iload_n hx hb dX5_both_76 rfl (lv_at hl 1 rfl) ?_
          refine lv_iload_n hx hb dX5_both_77 rfl (lv_at hl 2 rfl) ?_
          refine lv_icmp_le (tgt := 85) hx hb dX5_both_78 (by decide) (fun c8 => ?_) (fun c8 => ?_)
          · have hF := if_p c8 hF
            refine lv_iconst (v := 0) hx hb dX5_both_85 (by decide) ?_
            exact b_X5_both_86 X  _ _ _ _ hp (lv_sub hl [] rfl) hF
          · have hF := if_n c8 hF
            refine lv_iconst (v := 1) hx hb dX5_both_81 (by decide) ?_
            refine lv_goto (tgt := 86) hx hb dX5_both_82 (by decide) ?_
            exact b_X5_both_86 X  _ _ _ _ hp (lv_sub hl [] rfl) hF
        · have hF := if_p c7 hF
          refine lv_iload_n hx hb dX5_both_63 rfl (lv_at hl 1 rfl) ?_
          refine lv_iload_n hx hb dX5_both_64 rfl (lv_at hl 2 rfl) ?_
          refine lv_icmp_ne (tgt := 72) hx hb dX5_both_65 (by decide) (fun c9 => ?_) (fun c9 => ?_)
          · have hF := if_n c9 hF
            refine lv_iconst (v := 0) hx hb dX5_both_72 (by decide) ?_
            refine lv_goto (tgt := 86) hx hb dX5_both_73 (by decide) ?_
            exact b_X5_both_86 X  _ _ _ _ hp (lv_sub hl [] rfl) hF
          · have hF := if_p c9 hF
            refine lv_iconst (v := 1) hx hb dX5_both_68 (by decide) ?_
            refine lv_goto (tgt := 86) hx hb dX5_both_69 (by decide) ?_
            exact b_X5_both_86 X  _ _ _ _ hp (lv_sub hl [] rfl) hF
      · have hF := if_p c6 hF
        refine lv_iload_n hx hb dX5_both_44 rfl (lv_at hl 1 rfl) ?_
        refine lv_iload_n hx hb dX5_both_45 rfl (lv_at hl 2 rfl) ?_
        refine lv_icmp_ge (tgt := 53) hx hb dX5_both_46 (by decide) (fun c10 => ?_) (fun c10 => ?_)
        · have hF := if_p c10 hF
          refine lv_iconst (v := 0) hx hb dX5_both_53 (by decide) ?_
          refine lv_goto (tgt := 86) hx hb dX5_both_54 (by decide) ?_
          exact b_X5_both_86 X  _ _ _ _ hp (lv_sub hl [] rfl) hF
        · have hF := if_n c10 hF
          refine lv_iconst (v := 1) hx hb dX5_both_49 (by decide) ?_
          refine lv_goto (tgt := 86) hx hb dX5_both_50 (by decide) ?_
          exact b_X5_both_86 X  _ _ _ _ hp (lv_sub hl [] rfl) hF
  · have hF := if_n c1 hF
    refine lv_iload_n hx hb dX5_both_6 rfl (lv_at hl 0 rfl) ?_
    refine lv_iconst (v := 2) hx hb dX5_both_7 (by decide) ?_
    refine lv_icmp_ne (tgt := 17) hx hb dX5_both_8 (by decide) (fun c11 => ?_) (fun c11 => ?_)
    · have hF := if_n c11 hF
      refine lv_iload_n hx hb dX5_both_17 rfl (lv_at hl 0 rfl) ?_
      refine lv_iconst (v := 3) hx hb dX5_both_18 (by decide) ?_
      refine lv_icmp_ne (tgt := 28) hx hb dX5_both_19 (by decide) (fun c12 => ?_) (fun c12 => ?_)
      · have hF := if_n c12 hF
        refine lv_iload_n hx hb dX5_both_28 rfl (lv_at hl 1 rfl) ?_
        refine lv_iload_n hx hb dX5_both_29 rfl (lv_at hl 2 rfl) ?_
        refine lv_imul hx hb dX5_both_30 ?_
        cases hF
        exact m_iret X hp dX5_both_31
      · have hF := if_p c12 hF
        refine lv_iload_n hx hb dX5_both_22 rfl (lv_at hl 1 rfl) ?_
        refine lv_iload_n hx hb dX5_both_23 rfl (lv_at hl 2 rfl) ?_
        refine lv_isub hx hb dX5_both_24 ?_
        refine lv_goto (tgt := 31) hx hb dX5_both_25 (by decide) ?_
        cases hF
        exact m_iret X hp dX5_both_31
    · have hF := if_p c11 hF
      refine lv_iload_n hx hb dX5_both_11 rfl (lv_at hl 1 rfl) ?_
      refine lv_iload_n hx hb dX5_both_12 rfl (lv_at hl 2 rfl) ?_
      refine lv_iadd hx hb dX5_both_13 ?_
      refine lv_goto (tgt := 31) hx hb dX5_both_14 (by decide) ?_
      cases hF
      exact m_iret X hp dX5_both_31
end
section
variable {l : Launch} {D : va_G} {n0 : Nat} {P : mP} {S : mSh} {M : mMm} {n : Nat} {p : Program} {e : Env} {s : State} {m : MethodId} {args : Array Value} {below : List Frame} {meth : Method} {c : Code}
abbrev Rm_X5_take : Room := { frames := 1, cells := 0, slots := 0, locals := 23 }
def f_X5_take (S : mSh) (M : mMm) (x0 : Nat) : Option mMm := ob (rR S M x0 6 0) fun v1 => ob (rR S M x0 6 1) fun v3 => ob (f_X5_copies S M v1 v3 (2425 : Int32)) fun M7 => ob (wF S M7 x0 6 6 (.int (1 : Int32))) fun M8 => some M8
theorem w_X5_take {x0 : Nat} {M' : mMm} (hF : f_X5_take S M x0 = some M') : mCt l D n0 P yX5_take cX5_take 1 none 1 23 0 0 [.ref x0] S M n none S M' n := by
  refine m_ofW (by decide) (Nat.le_of_ble_eq_true rfl) (fun p e s m below meth c X hnm hp ls hl => ?_)
  have hx := X.1.1
  have hb := X.1.2.1
  have hown := X.1.2.2.2.1
  have hts := X.1.2.2.2.2
  have hl : lv_has ls 1 [(0, .ref x0)] := hl
  unfold f_X5_take at hF
  refine lv_aload_n hx hb dX5_take_0 rfl (lv_at hl 0 rfl) ?_
  obtain ⟨v1, e2, hF⟩ := ob_s hF
  refine m_getR X hp e2 kX5 (Nat.le_of_ble_eq_true rfl) q1459 dX5_take_1 ?_
  refine lv_aload_n hx hb dX5_take_4 rfl (lv_at hl 0 rfl) ?_
  obtain ⟨v3, e4, hF⟩ := ob_s hF
  refine m_getR X hp e4 kX5 (Nat.le_of_ble_eq_true rfl) q1460 dX5_take_5 ?_
  refine lv_sipush (v := 2425) hx hb dX5_take_8 (by decide) ?_
  obtain ⟨M7, e5, hF⟩ := ob_s hF
  refine m_callS (As := [.ref v1, .ref v3, .int (2425 : Int32)]) (rest := []) X hp (w_X5_copies e5) q1595 q1596 q144 q1597 3 rfl ds_X5_copies ⟨Nat.le_of_ble_eq_true rfl, Nat.le_of_ble_eq_true rfl⟩ hl.1 rfl (Nat.le_of_ble_eq_true rfl) dX5_take_11 ⟨Nat.le_refl 0, Nat.le_refl 0⟩ (fun H locs hp => ?_)
  refine lv_aload_n hx hb dX5_take_14 rfl (lv_at hl 0 rfl) ?_
  refine lv_iconst (v := 1) hx hb dX5_take_15 (by decide) ?_
  obtain ⟨M8, e9, hF⟩ := ob_s hF
  refine m_putW X hp e9 kX5 (Nat.le_of_ble_eq_true rfl) q1465 rfl rfl rfl dX5_take_16 (fun H locs hp => ?_)
  cases hF
  exact m_vret X hp dX5_take_19
end
section
variable {l : Launch} {D : va_G} {n0 : Nat} {P : mP} {S : mSh} {M : mMm} {n : Nat} {p : Program} {e : Env} {s : State} {m : MethodId} {args : Array Value} {below : List Frame} {meth : Method} {c : Code}
abbrev Rm_X5_has : Room := { frames := 0, cells := 0, slots := 0, locals := 0 }
def f_X5_has (S : mSh) (M : mMm) (x0 : Nat) (x1 : Int32) (x2 : Int32) : Option Int32 := ob (rR S M x0 6 1) fun v1 => ob (aI S M v1 100 (((144 : Int32) + ((12 : Int32) * x1)) + x2)) fun v3 => some v3
theorem w_X5_has {x0 : Nat} {x1 : Int32} {x2 : Int32} {r : Int32} (hF : f_X5_has S M x0 x1 x2 = some r) : mCt l D n0 P yX5_has cX5_has 3 (some .int) 0 0 0 0 [.ref x0, .int x1, .int x2] S M n (some (.int r)) S M n := by
  refine m_ofW (by decide) (Nat.le_of_ble_eq_true rfl) (fun p e s m below meth c X hnm hp ls hl => ?_)
  have hx := X.1.1
  have hb := X.1.2.1
  have hown := X.1.2.2.2.1
  have hts := X.1.2.2.2.2
  have hl : lv_has ls 3 [(0, .ref x0), (1, .int x1), (2, .int x2)] := hl
  unfold f_X5_has at hF
  refine lv_aload_n hx hb dX5_has_0 rfl (lv_at hl 0 rfl) ?_
  obtain ⟨v1, e2, hF⟩ := ob_s hF
  refine m_getR X hp e2 kX5 (Nat.le_of_ble_eq_true rfl) q1460 dX5_has_1 ?_
  refine lv_sipush (v := 144) hx hb dX5_has_4 (by decide) ?_
  refine lv_bipush (v := 12) hx hb dX5_has_7 (by decide) ?_
  refine lv_iload_n hx hb dX5_has_9 rfl (lv_at hl 1 rfl) ?_
  refine lv_imul hx hb dX5_has_10 ?_
  refine lv_iadd hx hb dX5_has_11 ?_
  refine lv_iload_n hx hb dX5_has_12 rfl (lv_at hl 2 rfl) ?_
  refine lv_iadd hx hb dX5_has_13 ?_
  obtain ⟨v3, e4, hF⟩ := ob_s hF
  refine m_iaI X hp e4 dX5_has_14 ?_
  cases hF
  exact m_iret X hp dX5_has_15
end
section
variable {l : Launch} {D : va_G} {n0 : Nat} {P : mP} {S : mSh} {M : mMm} {n : Nat} {p : Program} {e : Env} {s : State} {m : MethodId} {args : Array Value} {below : List Frame} {meth : Method} {c : Code}
abbrev Rm_X5_standsAt : Room := { frames := 1, cells := 0, slots := 0, locals := 22 }
def f_X5_standsAt (S : mSh) (M : mMm) (x0 : Nat) (x1 : Int32) : Option Int32 := gd ((S x0).1 = 6) (ob (f_X5_has S M x0 x1 (2 : Int32)) fun v3 => ob (f_X5_has S M x0 x1 (3 : Int32)) fun v5 => ob (f_X5_place v3 v5) fun v7 => some v7)
theorem w_X5_standsAt {x0 : Nat} {x1 : Int32} {r : Int32} (hF : f_X5_standsAt S M x0 x1 = some r) : mCt l D n0 P yX5_standsAt cX5_standsAt 2 (some .int) 1 22 0 0 [.ref x0, .int x1] S M n (some (.int r)) S M n := by
  refine m_ofW (by decide) (Nat.le_of_ble_eq_true rfl) (fun p e s m below meth c X hnm hp ls hl => ?_)
  have hx := X.1.1
  have hb := X.1.2.1
  have hown := X.1.2.2.2.1
  have hts := X.1.2.2.2.2
  have hl : lv_has ls 2 [(0, .ref x0), (1, .int x1)] := hl
  unfold f_X5_standsAt at hF
  refine lv_aload_n hx hb dX5_standsAt_0 rfl (lv_at hl 0 rfl) ?_
  refine lv_iload_n hx hb dX5_standsAt_1 rfl (lv_at hl 1 rfl) ?_
  refine lv_iconst (v := 2) hx hb dX5_standsAt_2 (by decide) ?_
  obtain ⟨g1, hF⟩ := gd_s hF
  obtain ⟨v3, e2, hF⟩ := ob_s hF
  refine m_callV (As := [.int x1, .int (2 : Int32)]) (rest := []) X hp (w_X5_has e2) q1727 q1729 qs89 q144 q1730 2 rfl ds_X5_has ⟨Nat.le_of_ble_eq_true rfl, Nat.le_of_ble_eq_true rfl⟩ 6 (T := TX5) (N := 40) rfl (by decide) g1 hl.1 rfl (Nat.le_of_ble_eq_true rfl) dX5_standsAt_3 ⟨Nat.le_refl 0, Nat.le_refl 0⟩ (fun H locs hp => ?_)
  refine lv_aload_n hx hb dX5_standsAt_6 rfl (lv_at hl 0 rfl) ?_
  refine lv_iload_n hx hb dX5_standsAt_7 rfl (lv_at hl 1 rfl) ?_
  refine lv_iconst (v := 3) hx hb dX5_standsAt_8 (by decide) ?_
  obtain ⟨v5, e4, hF⟩ := ob_s hF
  refine m_callV (As := [.int x1, .int (3 : Int32)]) (rest := [.int v3]) X hp (w_X5_has e4) q1727 q1729 qs89 q144 q1730 2 rfl ds_X5_has ⟨Nat.le_of_ble_eq_true rfl, Nat.le_of_ble_eq_true rfl⟩ 6 (T := TX5) (N := 40) rfl (by decide) g1 hl.1 rfl (Nat.le_of_ble_eq_true rfl) dX5_standsAt_9 ⟨Nat.le_refl 0, Nat.le_refl 0⟩ (fun H locs hp => ?_)
  obtain ⟨v7, e6, hF⟩ := ob_s hF
  refine m_callS (As := [.int v3, .int v5]) (rest := []) X hp (w_X5_place e6) q1708 q1709 q144 q1710 2 rfl ds_X5_place ⟨Nat.le_of_ble_eq_true rfl, Nat.le_of_ble_eq_true rfl⟩ hl.1 rfl (Nat.le_of_ble_eq_true rfl) dX5_standsAt_12 ⟨Nat.le_refl 0, Nat.le_refl 0⟩ (fun H locs hp => ?_)
  cases hF
  exact m_iret X hp dX5_standsAt_15
end
section
variable {l : Launch} {D : va_G} {n0 : Nat} {P : mP} {S : mSh} {M : mMm} {n : Nat} {p : Program} {e : Env} {s : State} {m : MethodId} {args : Array Value} {below : List Frame} {meth : Method} {c : Code}
abbrev Rm_X5_whoIsAt : Room := { frames := 2, cells := 0, slots := 0, locals := 43 }
def fb_X5_whoIsAt_35 (S : mSh) (M : mMm) (k2 : Nat → Int32 → Int32 → Option Int32) (x0 : Nat) (x1 : Int32) (x2 : Int32) : Option Int32 := nm (x2 + (1 : Int32)) fun v14 => (k2 x0 x1 v14)
theorem b_X5_whoIsAt_35 {r : Int32} (X : mCx D n0 P p m c cX5_whoIsAt 3 s args yX5_whoIsAt.cls meth (some .int)) (k2 : Nat → Int32 → Int32 → Option Int32) (hk2 : ∀ (x0 : Nat) (x1 : Int32) (x2 : Int32) (H : Heap) (locs : List Loc) (ls : Array Slot), mHp D n0 S M n s H locs → lv_has ls 3 [(0, .ref x0), (1, .int x1), (2, .int x2)] → k2 x0 x1 x2 = some r → W p l e Rm_X5_whoIsAt s m args below meth c H locs 0 0 (MQ below (mQ D n0 (some (.int r)) S M n) args s 0 0 (mA n0)) (F0 m 2 ls [])) : ∀ (x0 : Nat) (x1 : Int32) (x2 : Int32) (H : Heap) (locs : List Loc) (ls : Array Slot), mHp D n0 S M n s H locs → lv_has ls 3 [(0, .ref x0), (1, .int x1), (2, .int x2)] → fb_X5_whoIsAt_35 S M k2 x0 x1 x2 = some r → W p l e Rm_X5_whoIsAt s m args below meth c H locs 0 0 (MQ below (mQ D n0 (some (.int r)) S M n) args s 0 0 (mA n0)) (F0 m 35 ls []) := by
  have hx := X.1.1
  have hb := X.1.2.1
  have hown := X.1.2.2.2.1
  have hts := X.1.2.2.2.2
  intro x0 x1 x2 H locs ls hp hl hF
  unfold fb_X5_whoIsAt_35 at hF
  obtain ⟨v14, ev15⟩ : ∃ y : Int32, y = x2 + (1 : Int32) := ⟨_, rfl⟩
  have hF := nm_s hF ev15
  refine lv_iinc (v := v14) (lv' := [(2, .int v14), (0, .ref x0), (1, .int x1)]) hx hb dX5_whoIsAt_35 hl (k := 2) rfl (by rw [ev15]; rfl) (by decide) rfl (fun ls hl => ?_)
  refine lv_goto (tgt := 2) hx hb dX5_whoIsAt_38 (by decide) ?_
  exact hk2 _ _ _ _ _ _ hp (lv_sub hl [1, 2, 0] rfl) hF
def fb_X5_whoIsAt_2 (S : mSh) (M : mMm) : Nat → Nat → Int32 → Int32 → Option Int32
  | 0, _, _, _ => none
  | t + 1, x0, x1, x2 => ob (rR S M x0 6 1) fun v3 => ob (aI S M v3 100 (940 : Int32)) fun v5 => (if v5 ≤ x2 then some (-1 : Int32) else ob (f_X5_has S M x0 x2 (1 : Int32)) fun v9 => (if v9 = (1 : Int32) then ob (f_X5_standsAt S M x0 x2) fun v12 => (if v12 = x1 then some x2 else (fb_X5_whoIsAt_35 S M (fb_X5_whoIsAt_2 S M t) x0 x1 x2)) else (fb_X5_whoIsAt_35 S M (fb_X5_whoIsAt_2 S M t) x0 x1 x2)))
theorem b_X5_whoIsAt_2 {r : Int32} (X : mCx D n0 P p m c cX5_whoIsAt 3 s args yX5_whoIsAt.cls meth (some .int)) : ∀ t : Nat, ∀ (x0 : Nat) (x1 : Int32) (x2 : Int32) (H : Heap) (locs : List Loc) (ls : Array Slot), mHp D n0 S M n s H locs → lv_has ls 3 [(0, .ref x0), (1, .int x1), (2, .int x2)] → fb_X5_whoIsAt_2 S M t x0 x1 x2 = some r → W p l e Rm_X5_whoIsAt s m args below meth c H locs 0 0 (MQ below (mQ D n0 (some (.int r)) S M n) args s 0 0 (mA n0)) (F0 m 2 ls []) := by
  have hx := X.1.1
  have hb := X.1.2.1
  have hown := X.1.2.2.2.1
  have hts := X.1.2.2.2.2
  intro t
  induction t with
  | zero =>
    intro x0 x1 x2 H locs ls hp hl hF
    have hF : none = some r := hF
    cases hF
  | succ t ih =>
    intro x0 x1 x2 H locs ls hp hl hF
    rw [fb_X5_whoIsAt_2] at hF
    refine lv_iload_n hx hb dX5_whoIsAt_2 rfl (lv_at hl 2 rfl) ?_
    refine lv_aload_n hx hb dX5_whoIsAt_3 rfl (lv_at hl 0 rfl) ?_
    obtain ⟨v3, e4, hF⟩ := ob_s hF
    refine m_getR X hp e4 kX5 (Nat.le_of_ble_eq_true rfl) q1460 dX5_whoIsAt_4 ?_
    refine lv_sipush (v := 940) hx hb dX5_whoIsAt_7 (by decide) ?_
    obtain ⟨v5, e6, hF⟩ := ob_s hF
    refine m_iaI X hp e6 dX5_whoIsAt_10 ?_
    refine lv_icmp_ge (tgt := 41) hx hb dX5_whoIsAt_11 (by decide) (fun c7 => ?_) (fun c7 => ?_)
    · have hF := if_p c7 hF
      refine lv_iconst (v := -1) hx hb dX5_whoIsAt_41 (by decide) ?_
      cases hF
      exact m_iret X hp dX5_whoIsAt_42
    · have hF := if_n c7 hF
      refine lv_aload_n hx hb dX5_whoIsAt_14 rfl (lv_at hl 0 rfl) ?_
      refine lv_iload_n hx hb dX5_whoIsAt_15 rfl (lv_at hl 2 rfl) ?_
      refine lv_iconst (v := 1) hx hb dX5_whoIsAt_16 (by decide) ?_
      obtain ⟨v9, e8, hF⟩ := ob_s hF
      refine m_callV (As := [.int x2, .int (1 : Int32)]) (rest := []) X hp (w_X5_has e8) q1727 q1729 qs89 q144 q1730 2 rfl ds_X5_has ⟨Nat.le_of_ble_eq_true rfl, Nat.le_of_ble_eq_true rfl⟩ 6 (T := TX5) (N := 40) rfl (by decide) (rR_s e4).1 hl.1 rfl (Nat.le_of_ble_eq_true rfl) dX5_whoIsAt_17 ⟨Nat.le_refl 0, Nat.le_refl 0⟩ (fun H locs hp => ?_)
      refine lv_iconst (v := 1) hx hb dX5_whoIsAt_20 (by decide) ?_
      refine lv_icmp_ne (tgt := 35) hx hb dX5_whoIsAt_21 (by decide) (fun c10 => ?_) (fun c10 => ?_)
      · have hF := if_n c10 hF
        exact b_X5_whoIsAt_35 X _ ih _ _ _ _ _ _ hp (lv_sub hl [0, 1, 2] rfl) hF
      · have hF := if_p c10 hF
        refine lv_aload_n hx hb dX5_whoIsAt_24 rfl (lv_at hl 0 rfl) ?_
        refine lv_iload_n hx hb dX5_whoIsAt_25 rfl (lv_at hl 2 rfl) ?_
        obtain ⟨v12, e11, hF⟩ := ob_s hF
        refine m_callV (As := [.int x2]) (rest := []) X hp (w_X5_standsAt e11) q1750 q1752 qs94 q144 q1753 1 rfl ds_X5_standsAt ⟨Nat.le_of_ble_eq_true rfl, Nat.le_of_ble_eq_true rfl⟩ 6 (T := TX5) (N := 40) rfl (by decide) (rR_s e4).1 hl.1 rfl (Nat.le_of_ble_eq_true rfl) dX5_whoIsAt_26 ⟨Nat.le_refl 0, Nat.le_refl 0⟩ (fun H locs hp => ?_)
        refine lv_iload_n hx hb dX5_whoIsAt_29 rfl (lv_at hl 1 rfl) ?_
        refine lv_icmp_ne (tgt := 35) hx hb dX5_whoIsAt_30 (by decide) (fun c13 => ?_) (fun c13 => ?_)
        · have hF := if_n c13 hF
          exact b_X5_whoIsAt_35 X _ ih _ _ _ _ _ _ hp (lv_sub hl [0, 1, 2] rfl) hF
        · have hF := if_p c13 hF
          refine lv_iload_n hx hb dX5_whoIsAt_33 rfl (lv_at hl 2 rfl) ?_
          cases hF
          exact m_iret X hp dX5_whoIsAt_34
def f_X5_whoIsAt (S : mSh) (M : mMm) (x0 : Nat) (x1 : Int32) : Option Int32 := nm ((0 : Int32)) fun v1 => (fb_X5_whoIsAt_2 S M FU x0 x1 v1)
theorem w_X5_whoIsAt {x0 : Nat} {x1 : Int32} {r : Int32} (hF : f_X5_whoIsAt S M x0 x1 = some r) : mCt l D n0 P yX5_whoIsAt cX5_whoIsAt 3 (some .int) 2 43 0 0 [.ref x0, .int x1] S M n (some (.int r)) S M n := by
  refine m_ofW (by decide) (Nat.le_of_ble_eq_true rfl) (fun p e s m below meth c X hnm hp ls hl => ?_)
  have hx := X.1.1
  have hb := X.1.2.1
  have hown := X.1.2.2.2.1
  have hts := X.1.2.2.2.2
  have hl : lv_has ls 3 [(0, .ref x0), (1, .int x1)] := hl
  unfold f_X5_whoIsAt at hF
  refine lv_iconst (v := 0) hx hb dX5_whoIsAt_0 (by decide) ?_
  refine lv_topi (fun v1 ev2 => ?_)
  have hF := nm_s hF ev2
  refine lv_istore_n (lv' := [(2, .int v1), (0, .ref x0), (1, .int x1)]) hx hb dX5_whoIsAt_1 rfl hl (by decide) rfl (fun ls hl => ?_)
  exact b_X5_whoIsAt_2 X _ _ _ _ _ _ _ hp (lv_sub hl [1, 2, 0] rfl) hF
end
section
variable {l : Launch} {D : va_G} {n0 : Nat} {P : mP} {S : mSh} {M : mMm} {n : Nat} {p : Program} {e : Env} {s : State} {m : MethodId} {args : Array Value} {below : List Frame} {meth : Method} {c : Code}
abbrev Rm_X5_cell : Room := { frames := 3, cells := 0, slots := 0, locals := 65 }
def f_X5_cell (S : mSh) (M : mMm) (x0 : Nat) (x1 : Int32) (x2 : Int32) (x3 : Int32) : Option (Int32 × mMm) := ob (f_X5_isIn x1 x2) fun v2 => (if v2 = 0 then some ((-2 : Int32), M) else ob (f_X5_within x3 (0 : Int32) (1 : Int32)) fun v5 => (if v5 = 0 then some ((-2 : Int32), M) else gd ((S x0).1 = 6) (ob (f_X5_take S M x0) fun M10 => (if x3 = 0 then ob (rR S M10 x0 6 1) fun v16 => ob (f_X5_place x1 x2) fun v19 => ob (aI S M10 v16 100 v19) fun v20 => some (v20, M10) else ob (f_X5_place x1 x2) fun v13 => ob (f_X5_whoIsAt S M10 x0 v13) fun v15 => some (v15, M10)))))
theorem w_X5_cell {x0 : Nat} {x1 : Int32} {x2 : Int32} {x3 : Int32} {r : Int32} {M' : mMm} (hF : f_X5_cell S M x0 x1 x2 x3 = some (r, M')) : mCt l D n0 P yX5_cell cX5_cell 4 (some .int) 3 65 0 0 [.ref x0, .int x1, .int x2, .int x3] S M n (some (.int r)) S M' n := by
  refine m_ofW (by decide) (Nat.le_of_ble_eq_true rfl) (fun p e s m below meth c X hnm hp ls hl => ?_)
  have hx := X.1.1
  have hb := X.1.2.1
  have hown := X.1.2.2.2.1
  have hts := X.1.2.2.2.2
  have hl : lv_has ls 4 [(0, .ref x0), (1, .int x1), (2, .int x2), (3, .int x3)] := hl
  unfold f_X5_cell at hF
  refine lv_iload_n hx hb dX5_cell_0 rfl (lv_at hl 1 rfl) ?_
  refine lv_iload_n hx hb dX5_cell_1 rfl (lv_at hl 2 rfl) ?_
  obtain ⟨v2, e1, hF⟩ := ob_s hF
  refine m_callS (As := [.int x1, .int x2]) (rest := []) X hp (w_X5_isIn e1) q1768 q1769 q144 q1770 2 rfl ds_X5_isIn ⟨Nat.le_of_ble_eq_true rfl, Nat.le_of_ble_eq_true rfl⟩ hl.1 rfl (Nat.le_of_ble_eq_true rfl) dX5_cell_2 ⟨Nat.le_refl 0, Nat.le_refl 0⟩ (fun H locs hp => ?_)
  refine lv_if_eq (tgt := 17) hx hb dX5_cell_5 (by decide) (fun c3 => ?_) (fun c3 => ?_)
  · have hF := if_p c3 hF
    refine lv_bipush (v := -2) hx hb dX5_cell_17 (by decide) ?_
    cases hF
    exact m_iret X hp dX5_cell_19
  · have hF := if_n c3 hF
    refine lv_iload_n hx hb dX5_cell_8 rfl (lv_at hl 3 rfl) ?_
    refine lv_iconst (v := 0) hx hb dX5_cell_9 (by decide) ?_
    refine lv_iconst (v := 1) hx hb dX5_cell_10 (by decide) ?_
    obtain ⟨v5, e4, hF⟩ := ob_s hF
    refine m_callS (As := [.int x3, .int (0 : Int32), .int (1 : Int32)]) (rest := []) X hp (w_X5_within e4) q1588 q1589 q144 q1590 3 rfl ds_X5_within ⟨Nat.le_of_ble_eq_true rfl, Nat.le_of_ble_eq_true rfl⟩ hl.1 rfl (Nat.le_of_ble_eq_true rfl) dX5_cell_11 ⟨Nat.le_refl 0, Nat.le_refl 0⟩ (fun H locs hp => ?_)
    refine lv_if_ne (tgt := 20) hx hb dX5_cell_14 (by decide) (fun c6 => ?_) (fun c6 => ?_)
    · have hF := if_n c6 hF
      refine lv_aload_n hx hb dX5_cell_20 rfl (lv_at hl 0 rfl) ?_
      obtain ⟨g7, hF⟩ := gd_s hF
      obtain ⟨M10, e8, hF⟩ := ob_s hF
      refine m_callV (As := []) (rest := []) X hp (w_X5_take e8) q1871 q1873 qs112 q144 q1874 0 rfl ds_X5_take ⟨Nat.le_of_ble_eq_true rfl, Nat.le_of_ble_eq_true rfl⟩ 6 (T := TX5) (N := 40) rfl (by decide) g7 hl.1 rfl (Nat.le_of_ble_eq_true rfl) dX5_cell_21 ⟨Nat.le_refl 0, Nat.le_refl 0⟩ (fun H locs hp => ?_)
      refine lv_iload_n hx hb dX5_cell_24 rfl (lv_at hl 3 rfl) ?_
      refine lv_if_ne (tgt := 41) hx hb dX5_cell_25 (by decide) (fun c11 => ?_) (fun c11 => ?_)
      · have hF := if_n c11 hF
        refine lv_aload_n hx hb dX5_cell_41 rfl (lv_at hl 0 rfl) ?_
        refine lv_iload_n hx hb dX5_cell_42 rfl (lv_at hl 1 rfl) ?_
        refine lv_iload_n hx hb dX5_cell_43 rfl (lv_at hl 2 rfl) ?_
        obtain ⟨v13, e12, hF⟩ := ob_s hF
        refine m_callS (As := [.int x1, .int x2]) (rest := [.ref x0]) X hp (w_X5_place e12) q1708 q1709 q144 q1710 2 rfl ds_X5_place ⟨Nat.le_of_ble_eq_true rfl, Nat.le_of_ble_eq_true rfl⟩ hl.1 rfl (Nat.le_of_ble_eq_true rfl) dX5_cell_44 ⟨Nat.le_refl 0, Nat.le_refl 0⟩ (fun H locs hp => ?_)
        obtain ⟨v15, e14, hF⟩ := ob_s hF
        refine m_callV (As := [.int v13]) (rest := []) X hp (w_X5_whoIsAt e14) q1819 q1821 qs107 q144 q1822 1 rfl ds_X5_whoIsAt ⟨Nat.le_of_ble_eq_true rfl, Nat.le_of_ble_eq_true rfl⟩ 6 (T := TX5) (N := 40) rfl (by decide) g7 hl.1 rfl (Nat.le_of_ble_eq_true rfl) dX5_cell_47 ⟨Nat.le_refl 0, Nat.le_refl 0⟩ (fun H locs hp => ?_)
        cases hF
        exact m_iret X hp dX5_cell_50
      · have hF := if_p c11 hF
        refine lv_aload_n hx hb dX5_cell_28 rfl (lv_at hl 0 rfl) ?_
        obtain ⟨v16, e17, hF⟩ := ob_s hF
        refine m_getR X hp e17 kX5 (Nat.le_of_ble_eq_true rfl) q1460 dX5_cell_29 ?_
        refine lv_iload_n hx hb dX5_cell_32 rfl (lv_at hl 1 rfl) ?_
        refine lv_iload_n hx hb dX5_cell_33 rfl (lv_at hl 2 rfl) ?_
        obtain ⟨v19, e18, hF⟩ := ob_s hF
        refine m_callS (As := [.int x1, .int x2]) (rest := [.ref v16]) X hp (w_X5_place e18) q1708 q1709 q144 q1710 2 rfl ds_X5_place ⟨Nat.le_of_ble_eq_true rfl, Nat.le_of_ble_eq_true rfl⟩ hl.1 rfl (Nat.le_of_ble_eq_true rfl) dX5_cell_34 ⟨Nat.le_refl 0, Nat.le_refl 0⟩ (fun H locs hp => ?_)
        obtain ⟨v20, e21, hF⟩ := ob_s hF
        refine m_iaI X hp e21 dX5_cell_37 ?_
        refine lv_goto (tgt := 50) hx hb dX5_cell_38 (by decide) ?_
        cases hF
        exact m_iret X hp dX5_cell_50
    · have hF := if_p c6 hF
      refine lv_bipush (v := -2) hx hb dX5_cell_17 (by decide) ?_
      cases hF
      exact m_iret X hp dX5_cell_19
end
section
variable {l : Launch} {D : va_G} {n0 : Nat} {P : mP} {S : mSh} {M : mMm} {n : Nat} {p : Program} {e : Env} {s : State} {m : MethodId} {args : Array Value} {below : List Frame} {meth : Method} {c : Code}
abbrev Rm_X5_fine : Room := { frames := 0, cells := 0, slots := 0, locals := 0 }
def f_X5_fine (S : mSh) (M : mMm) (x0 : Nat) : Option Int32 := ob (rI S M x0 6 10) fun v1 => (if v1 = (-1 : Int32) then some (1 : Int32) else some (0 : Int32))
theorem w_X5_fine {x0 : Nat} {r : Int32} (hF : f_X5_fine S M x0 = some r) : mCt l D n0 P yX5_fine cX5_fine 1 (some .boolean) 0 0 0 0 [.ref x0] S M n (some (.int r)) S M n := by
  refine m_ofW (by decide) (Nat.le_of_ble_eq_true rfl) (fun p e s m below meth c X hnm hp ls hl => ?_)
  have hx := X.1.1
  have hb := X.1.2.1
  have hown := X.1.2.2.2.1
  have hts := X.1.2.2.2.2
  have hl : lv_has ls 1 [(0, .ref x0)] := hl
  unfold f_X5_fine at hF
  refine lv_aload_n hx hb dX5_fine_0 rfl (lv_at hl 0 rfl) ?_
  obtain ⟨v1, e2, hF⟩ := ob_s hF
  refine m_getI X hp e2 kX5 (Nat.le_of_ble_eq_true rfl) q1469 dX5_fine_1 ?_
  refine lv_iconst (v := -1) hx hb dX5_fine_4 (by decide) ?_
  refine lv_icmp_ne (tgt := 12) hx hb dX5_fine_5 (by decide) (fun c3 => ?_) (fun c3 => ?_)
  · have hF := if_n c3 hF
    refine lv_iconst (v := 0) hx hb dX5_fine_12 (by decide) ?_
    cases hF
    exact m_zret X hp rfl dX5_fine_13
  · have hF := if_p c3 hF
    refine lv_iconst (v := 1) hx hb dX5_fine_8 (by decide) ?_
    refine lv_goto (tgt := 13) hx hb dX5_fine_9 (by decide) ?_
    cases hF
    exact m_zret X hp rfl dX5_fine_13
end
section
variable {l : Launch} {D : va_G} {n0 : Nat} {P : mP} {S : mSh} {M : mMm} {n : Nat} {p : Program} {e : Env} {s : State} {m : MethodId} {args : Array Value} {below : List Frame} {meth : Method} {c : Code}
abbrev Rm_X5_codes : Room := { frames := 1, cells := 0, slots := 0, locals := 20 }
def f_X5_codes (S : mSh) (M : mMm) (x0 : Nat) (x1 : Int32) (x2 : Int32) : Option mMm := gd ((S x0).1 = 6) (ob (f_X5_fine S M x0) fun v3 => (if v3 = 0 then some M else ob (rR S M x0 6 16) fun v5 => ob (rI S M x0 6 17) fun v7 => ob (wA S M v5 100 ((1025 : Int32) + ((2 : Int32) * v7)) (.int x1)) fun M9 => ob (rR S M9 x0 6 16) fun v11 => ob (rI S M9 x0 6 17) fun v13 => ob (wA S M9 v11 100 (((1025 : Int32) + ((2 : Int32) * v13)) + (1 : Int32)) (.int x2)) fun M15 => ob (rI S M15 x0 6 17) fun v17 => ob (wF S M15 x0 6 17 (.int (v17 + (1 : Int32)))) fun M19 => some M19))
theorem w_X5_codes {x0 : Nat} {x1 : Int32} {x2 : Int32} {M' : mMm} (hF : f_X5_codes S M x0 x1 x2 = some M') : mCt l D n0 P yX5_codes cX5_codes 3 none 1 20 0 0 [.ref x0, .int x1, .int x2] S M n none S M' n := by
  refine m_ofW (by decide) (Nat.le_of_ble_eq_true rfl) (fun p e s m below meth c X hnm hp ls hl => ?_)
  have hx := X.1.1
  have hb := X.1.2.1
  have hown := X.1.2.2.2.1
  have hts := X.1.2.2.2.2
  have hl : lv_has ls 3 [(0, .ref x0), (1, .int x1), (2, .int x2)] := hl
  unfold f_X5_codes at hF
  refine lv_aload_n hx hb dX5_codes_0 rfl (lv_at hl 0 rfl) ?_
  obtain ⟨g1, hF⟩ := gd_s hF
  obtain ⟨v3, e2, hF⟩ := ob_s hF
  refine m_callV (As := []) (rest := []) X hp (w_X5_fine e2) q1598 q1600 qs64 q144 q1601 0 rfl ds_X5_fine ⟨Nat.le_of_ble_eq_true rfl, Nat.le_of_ble_eq_true rfl⟩ 6 (T := TX5) (N := 40) rfl (by decide) g1 hl.1 rfl (Nat.le_of_ble_eq_true rfl) dX5_codes_1 ⟨Nat.le_refl 0, Nat.le_refl 0⟩ (fun H locs hp => ?_)
  refine lv_if_ne (tgt := 8) hx hb dX5_codes_4 (by decide) (fun c4 => ?_) (fun c4 => ?_)
  · have hF := if_n c4 hF
    refine lv_aload_n hx hb dX5_codes_8 rfl (lv_at hl 0 rfl) ?_
    obtain ⟨v5, e6, hF⟩ := ob_s hF
    refine m_getR X hp e6 kX5 (Nat.le_of_ble_eq_true rfl) q1475 dX5_codes_9 ?_
    refine lv_sipush (v := 1025) hx hb dX5_codes_12 (by decide) ?_
    refine lv_iconst (v := 2) hx hb dX5_codes_15 (by decide) ?_
    refine lv_aload_n hx hb dX5_codes_16 rfl (lv_at hl 0 rfl) ?_
    obtain ⟨v7, e8, hF⟩ := ob_s hF
    refine m_getI X hp e8 kX5 (Nat.le_of_ble_eq_true rfl) q1476 dX5_codes_17 ?_
    refine lv_imul hx hb dX5_codes_20 ?_
    refine lv_iadd hx hb dX5_codes_21 ?_
    refine lv_iload_n hx hb dX5_codes_22 rfl (lv_at hl 1 rfl) ?_
    obtain ⟨M9, e10, hF⟩ := ob_s hF
    refine m_iaW X hp e10 dX5_codes_23 (fun H locs hp => ?_)
    refine lv_aload_n hx hb dX5_codes_24 rfl (lv_at hl 0 rfl) ?_
    obtain ⟨v11, e12, hF⟩ := ob_s hF
    refine m_getR X hp e12 kX5 (Nat.le_of_ble_eq_true rfl) q1475 dX5_codes_25 ?_
    refine lv_sipush (v := 1025) hx hb dX5_codes_28 (by decide) ?_
    refine lv_iconst (v := 2) hx hb dX5_codes_31 (by decide) ?_
    refine lv_aload_n hx hb dX5_codes_32 rfl (lv_at hl 0 rfl) ?_
    obtain ⟨v13, e14, hF⟩ := ob_s hF
    refine m_getI X hp e14 kX5 (Nat.le_of_ble_eq_true rfl) q1476 dX5_codes_33 ?_
    refine lv_imul hx hb dX5_codes_36 ?_
    refine lv_iadd hx hb dX5_codes_37 ?_
    refine lv_iconst (v := 1) hx hb dX5_codes_38 (by decide) ?_
    refine lv_iadd hx hb dX5_codes_39 ?_
    refine lv_iload_n hx hb dX5_codes_40 rfl (lv_at hl 2 rfl) ?_
    obtain ⟨M15, e16, hF⟩ := ob_s hF
    refine m_iaW X hp e16 dX5_codes_41 (fun H locs hp => ?_)
    refine lv_aload_n hx hb dX5_codes_42 rfl (lv_at hl 0 rfl) ?_
    refine lv_dup hx hb dX5_codes_43 rfl ?_
    obtain ⟨v17, e18, hF⟩ := ob_s hF
    refine m_getI X hp e18 kX5 (Nat.le_of_ble_eq_true rfl) q1476 dX5_codes_44 ?_
    refine lv_iconst (v := 1) hx hb dX5_codes_47 (by decide) ?_
    refine lv_iadd hx hb dX5_codes_48 ?_
    obtain ⟨M19, e20, hF⟩ := ob_s hF
    refine m_putW X hp e20 kX5 (Nat.le_of_ble_eq_true rfl) q1476 rfl rfl rfl dX5_codes_49 (fun H locs hp => ?_)
    cases hF
    exact m_vret X hp dX5_codes_52
  · have hF := if_p c4 hF
    cases hF
    exact m_vret X hp dX5_codes_7
end
section
variable {l : Launch} {D : va_G} {n0 : Nat} {P : mP} {S : mSh} {M : mMm} {n : Nat} {p : Program} {e : Env} {s : State} {m : MethodId} {args : Array Value} {below : List Frame} {meth : Method} {c : Code}
abbrev Rm_X5_closes : Room := { frames := 2, cells := 0, slots := 0, locals := 42 }
def fb_X5_closes_74 (S : mSh) (k0 : mMm → Nat → Int32 → Option mMm) (M : mMm) (x0 : Nat) (x1 : Int32) (y0 : Int32) (y1 : Nat) : Option mMm := gd ((S y1).1 = 6) (ob (f_X5_codes S M y1 y0 (0 : Int32)) fun M25 => (k0 M25 x0 x1))
theorem b_X5_closes_74 {M' : mMm} (X : mCx D n0 P p m c cX5_closes 2 s args yX5_closes.cls meth none) (k0 : mMm → Nat → Int32 → Option mMm) (hk0 : ∀ (M : mMm) (x0 : Nat) (x1 : Int32) (H : Heap) (locs : List Loc) (ls : Array Slot), mHp D n0 S M n s H locs → lv_has ls 2 [(0, .ref x0), (1, .int x1)] → k0 M x0 x1 = some M' → W p l e Rm_X5_closes s m args below meth c H locs 0 0 (MQ below (mQ D n0 none S M' n) args s 0 0 (mA n0)) (F0 m 0 ls [])) : ∀ (M : mMm) (x0 : Nat) (x1 : Int32) (y0 : Int32) (y1 : Nat) (H : Heap) (locs : List Loc) (ls : Array Slot), mHp D n0 S M n s H locs → lv_has ls 2 [(0, .ref x0), (1, .int x1)] → fb_X5_closes_74 S k0 M x0 x1 y0 y1 = some M' → W p l e Rm_X5_closes s m args below meth c H locs 0 0 (MQ below (mQ D n0 none S M' n) args s 0 0 (mA n0)) (F0 m 74 ls [.int y0, .ref y1]) := by
  have hx := X.1.1
  have hb := X.1.2.1
  have hown := X.1.2.2.2.1
  have hts := X.1.2.2.2.2
  intro M x0 x1 y0 y1 H locs ls hp hl hF
  unfold fb_X5_closes_74 at hF
  refine lv_iconst (v := 0) hx hb dX5_closes_74 (by decide) ?_
  obtain ⟨g22, hF⟩ := gd_s hF
  obtain ⟨M25, e23, hF⟩ := ob_s hF
  refine m_callV (As := [.int y0, .int (0 : Int32)]) (rest := []) X hp (w_X5_codes e23) q1654 q1656 qs75 q144 q1657 2 rfl ds_X5_codes ⟨Nat.le_of_ble_eq_true rfl, Nat.le_of_ble_eq_true rfl⟩ 6 (T := TX5) (N := 40) rfl (by decide) g22 hl.1 rfl (Nat.le_of_ble_eq_true rfl) dX5_closes_75 ⟨Nat.le_refl 0, Nat.le_refl 0⟩ (fun H locs hp => ?_)
  refine lv_goto (tgt := 0) hx hb dX5_closes_78 (by decide) ?_
  exact hk0 _ _ _ _ _ _ hp (lv_sub hl [0, 1] rfl) hF
def fb_X5_closes_47 (S : mSh) (k0 : mMm → Nat → Int32 → Option mMm) (M : mMm) (x0 : Nat) (x1 : Int32) (y0 : Int32) (y1 : Int32) (y2 : Nat) : Option mMm := ob (wF S M y2 6 12 (.int (y1 - y0))) fun M18 => (if x1 = (2 : Int32) then (fb_X5_closes_74 S k0 M18 x0 x1 (9 : Int32) x0) else (if x1 = (3 : Int32) then (fb_X5_closes_74 S k0 M18 x0 x1 (10 : Int32) x0) else (fb_X5_closes_74 S k0 M18 x0 x1 (11 : Int32) x0)))
theorem b_X5_closes_47 {M' : mMm} (X : mCx D n0 P p m c cX5_closes 2 s args yX5_closes.cls meth none) (k0 : mMm → Nat → Int32 → Option mMm) (hk0 : ∀ (M : mMm) (x0 : Nat) (x1 : Int32) (H : Heap) (locs : List Loc) (ls : Array Slot), mHp D n0 S M n s H locs → lv_has ls 2 [(0, .ref x0), (1, .int x1)] → k0 M x0 x1 = some M' → W p l e Rm_X5_closes s m args below meth c H locs 0 0 (MQ below (mQ D n0 none S M' n) args s 0 0 (mA n0)) (F0 m 0 ls [])) : ∀ (M : mMm) (x0 : Nat) (x1 : Int32) (y0 : Int32) (y1 : Int32) (y2 : Nat) (H : Heap) (locs : List Loc) (ls : Array Slot), mHp D n0 S M n s H locs → lv_has ls 2 [(0, .ref x0), (1, .int x1)] → fb_X5_closes_47 S k0 M x0 x1 y0 y1 y2 = some M' → W p l e Rm_X5_closes s m args below meth c H locs 0 0 (MQ below (mQ D n0 none S M' n) args s 0 0 (mA n0)) (F0 m 47 ls [.int y0, .int y1, .ref y2]) := by
  have hx := X.1.1
  have hb := X.1.2.1
  have hown := X.1.2.2.2.1
  have hts := X.1.2.2.2.2
  intro M x0 x1 y0 y1 y2 H locs ls hp hl hF
  unfold fb_X5_closes_47 at hF
  refine lv_isub hx hb dX5_closes_47 ?_
  obtain ⟨M18, e19, hF⟩ := ob_s hF
  refine m_putW X hp e19 kX5 (Nat.le_of_ble_eq_true rfl) q1471 rfl rfl rfl dX5_closes_48 (fun H locs hp => ?_)
  refine lv_aload_n hx hb dX5_closes_51 rfl (lv_at hl 0 rfl) ?_
  refine lv_iload_n hx hb dX5_closes_52 rfl (lv_at hl 1 rfl) ?_
  refine lv_iconst (v := 2) hx hb dX5_closes_53 (by decide) ?_
  refine lv_icmp_ne (tgt := 62) hx hb dX5_closes_54 (by decide) (fun c20 => ?_) (fun c20 => ?_)
  · have hF := if_n c20 hF
    refine lv_iload_n hx hb dX5_closes_62 rfl (lv_at hl 1 rfl) ?_
    refine lv_iconst (v := 3) hx hb dX5_closes_63 (by decide) ?_
    refine lv_icmp_ne (tgt := 72) hx hb dX5_closes_64 (by decide) (fun c21 => ?_) (fun c21 => ?_)
    · have hF := if_n c21 hF
      refine lv_bipush (v := 11) hx hb dX5_closes_72 (by decide) ?_
      exact b_X5_closes_74 X _ hk0 _ _ _ _ _ _ _ _ hp (lv_sub hl [0, 1] rfl) hF
    · have hF := if_p c21 hF
      refine lv_bipush (v := 10) hx hb dX5_closes_67 (by decide) ?_
      refine lv_goto (tgt := 74) hx hb dX5_closes_69 (by decide) ?_
      exact b_X5_closes_74 X _ hk0 _ _ _ _ _ _ _ _ hp (lv_sub hl [0, 1] rfl) hF
  · have hF := if_p c20 hF
    refine lv_bipush (v := 9) hx hb dX5_closes_57 (by decide) ?_
    refine lv_goto (tgt := 74) hx hb dX5_closes_59 (by decide) ?_
    exact b_X5_closes_74 X _ hk0 _ _ _ _ _ _ _ _ hp (lv_sub hl [0, 1] rfl) hF
def fb_X5_closes_0 (S : mSh) : Nat → mMm → Nat → Int32 → Option mMm
  | 0, _, _, _ => none
  | t + 1, M, x0, x1 => ob (rI S M x0 6 19) fun v1 => (if v1 ≤ 0 then some M else ob (rR S M x0 6 18) fun v4 => ob (rI S M x0 6 19) fun v6 => ob (aI S M v4 100 (v6 - (1 : Int32))) fun v8 => (if v8 = x1 then ob (rI S M x0 6 19) fun v11 => ob (wF S M x0 6 19 (.int (v11 - (1 : Int32)))) fun M13 => ob (rI S M13 x0 6 12) fun v15 => (if x1 = (2 : Int32) then (fb_X5_closes_47 S (fb_X5_closes_0 S t) M13 x0 x1 (1 : Int32) v15 x0) else (fb_X5_closes_47 S (fb_X5_closes_0 S t) M13 x0 x1 (0 : Int32) v15 x0)) else some M))
theorem b_X5_closes_0 {M' : mMm} (X : mCx D n0 P p m c cX5_closes 2 s args yX5_closes.cls meth none) : ∀ t : Nat, ∀ (M : mMm) (x0 : Nat) (x1 : Int32) (H : Heap) (locs : List Loc) (ls : Array Slot), mHp D n0 S M n s H locs → lv_has ls 2 [(0, .ref x0), (1, .int x1)] → fb_X5_closes_0 S t M x0 x1 = some M' → W p l e Rm_X5_closes s m args below meth c H locs 0 0 (MQ below (mQ D n0 none S M' n) args s 0 0 (mA n0)) (F0 m 0 ls []) := by
  have hx := X.1.1
  have hb := X.1.2.1
  have hown := X.1.2.2.2.1
  have hts := X.1.2.2.2.2
  intro t
  induction t with
  | zero =>
    intro M x0 x1 H locs ls hp hl hF
    have hF : none = some M' := hF
    cases hF
  | succ t ih =>
    intro M x0 x1 H locs ls hp hl hF
    rw [fb_X5_closes_0] at hF
    refine lv_aload_n hx hb dX5_closes_0 rfl (lv_at hl 0 rfl) ?_
    obtain ⟨v1, e2, hF⟩ := ob_s hF
    refine m_getI X hp e2 kX5 (Nat.le_of_ble_eq_true rfl) q1478 dX5_closes_1 ?_
    refine lv_if_le (tgt := 81) hx hb dX5_closes_4 (by decide) (fun c3 => ?_) (fun c3 => ?_)
    · have hF := if_p c3 hF
      cases hF
      exact m_vret X hp dX5_closes_81
    · have hF := if_n c3 hF
      refine lv_aload_n hx hb dX5_closes_7 rfl (lv_at hl 0 rfl) ?_
      obtain ⟨v4, e5, hF⟩ := ob_s hF
      refine m_getR X hp e5 kX5 (Nat.le_of_ble_eq_true rfl) q1477 dX5_closes_8 ?_
      refine lv_aload_n hx hb dX5_closes_11 rfl (lv_at hl 0 rfl) ?_
      obtain ⟨v6, e7, hF⟩ := ob_s hF
      refine m_getI X hp e7 kX5 (Nat.le_of_ble_eq_true rfl) q1478 dX5_closes_12 ?_
      refine lv_iconst (v := 1) hx hb dX5_closes_15 (by decide) ?_
      refine lv_isub hx hb dX5_closes_16 ?_
      obtain ⟨v8, e9, hF⟩ := ob_s hF
      refine m_iaI X hp e9 dX5_closes_17 ?_
      refine lv_iload_n hx hb dX5_closes_18 rfl (lv_at hl 1 rfl) ?_
      refine lv_icmp_ne (tgt := 81) hx hb dX5_closes_19 (by decide) (fun c10 => ?_) (fun c10 => ?_)
      · have hF := if_n c10 hF
        cases hF
        exact m_vret X hp dX5_closes_81
      · have hF := if_p c10 hF
        refine lv_aload_n hx hb dX5_closes_22 rfl (lv_at hl 0 rfl) ?_
        refine lv_dup hx hb dX5_closes_23 rfl ?_
        obtain ⟨v11, e12, hF⟩ := ob_s hF
        refine m_getI X hp e12 kX5 (Nat.le_of_ble_eq_true rfl) q1478 dX5_closes_24 ?_
        refine lv_iconst (v := 1) hx hb dX5_closes_27 (by decide) ?_
        refine lv_isub hx hb dX5_closes_28 ?_
        obtain ⟨M13, e14, hF⟩ := ob_s hF
        refine m_putW X hp e14 kX5 (Nat.le_of_ble_eq_true rfl) q1478 rfl rfl rfl dX5_closes_29 (fun H locs hp => ?_)
        refine lv_aload_n hx hb dX5_closes_32 rfl (lv_at hl 0 rfl) ?_
        refine lv_dup hx hb dX5_closes_33 rfl ?_
        obtain ⟨v15, e16, hF⟩ := ob_s hF
        refine m_getI X hp e16 kX5 (Nat.le_of_ble_eq_true rfl) q1471 dX5_closes_34 ?_
        refine lv_iload_n hx hb dX5_closes_37 rfl (lv_at hl 1 rfl) ?_
        refine lv_iconst (v := 2) hx hb dX5_closes_38 (by decide) ?_
        refine lv_icmp_ne (tgt := 46) hx hb dX5_closes_39 (by decide) (fun c17 => ?_) (fun c17 => ?_)
        · have hF := if_n c17 hF
          refine lv_iconst (v := 0) hx hb dX5_closes_46 (by decide) ?_
          exact b_X5_closes_47 X _ ih _ _ _ _ _ _ _ _ _ hp (lv_sub hl [0, 1] rfl) hF
        · have hF := if_p c17 hF
          refine lv_iconst (v := 1) hx hb dX5_closes_42 (by decide) ?_
          refine lv_goto (tgt := 47) hx hb dX5_closes_43 (by decide) ?_
          exact b_X5_closes_47 X _ ih _ _ _ _ _ _ _ _ _ hp (lv_sub hl [0, 1] rfl) hF
def f_X5_closes (S : mSh) (M : mMm) (x0 : Nat) (x1 : Int32) : Option mMm := (fb_X5_closes_0 S FU M x0 x1)
theorem w_X5_closes {x0 : Nat} {x1 : Int32} {M' : mMm} (hF : f_X5_closes S M x0 x1 = some M') : mCt l D n0 P yX5_closes cX5_closes 2 none 2 42 0 0 [.ref x0, .int x1] S M n none S M' n := by
  refine m_ofW (by decide) (Nat.le_of_ble_eq_true rfl) (fun p e s m below meth c X hnm hp ls hl => ?_)
  have hx := X.1.1
  have hb := X.1.2.1
  have hown := X.1.2.2.2.1
  have hts := X.1.2.2.2.2
  have hl : lv_has ls 2 [(0, .ref x0), (1, .int x1)] := hl
  unfold f_X5_closes at hF
  exact b_X5_closes_0 X _ _ _ _ _ _ _ hp (lv_sub hl [0, 1] rfl) hF
end
section
variable {l : Launch} {D : va_G} {n0 : Nat} {P : mP} {S : mSh} {M : mMm} {n : Nat} {p : Program} {e : Env} {s : State} {m : MethodId} {args : Array Value} {below : List Frame} {meth : Method} {c : Code}
abbrev Rm_X5_isWalker : Room := { frames := 1, cells := 0, slots := 0, locals := 22 }
def f_X5_isWalker (S : mSh) (M : mMm) (x0 : Nat) (x1 : Int32) : Option Int32 := ob (rR S M x0 6 0) fun v1 => ob (aI S M v1 100 (940 : Int32)) fun v3 => ob (f_X5_within x1 (0 : Int32) (v3 - (1 : Int32))) fun v6 => gd (v6 &&& 1 = v6) (some v6)
theorem w_X5_isWalker {x0 : Nat} {x1 : Int32} {r : Int32} (hF : f_X5_isWalker S M x0 x1 = some r) : mCt l D n0 P yX5_isWalker cX5_isWalker 2 (some .boolean) 1 22 0 0 [.ref x0, .int x1] S M n (some (.int r)) S M n := by
  refine m_ofW (by decide) (Nat.le_of_ble_eq_true rfl) (fun p e s m below meth c X hnm hp ls hl => ?_)
  have hx := X.1.1
  have hb := X.1.2.1
  have hown := X.1.2.2.2.1
  have hts := X.1.2.2.2.2
  have hl : lv_has ls 2 [(0, .ref x0), (1, .int x1)] := hl
  unfold f_X5_isWalker at hF
  refine lv_iload_n hx hb dX5_isWalker_0 rfl (lv_at hl 1 rfl) ?_
  refine lv_iconst (v := 0) hx hb dX5_isWalker_1 (by decide) ?_
  refine lv_aload_n hx hb dX5_isWalker_2 rfl (lv_at hl 0 rfl) ?_
  obtain ⟨v1, e2, hF⟩ := ob_s hF
  refine m_getR X hp e2 kX5 (Nat.le_of_ble_eq_true rfl) q1459 dX5_isWalker_3 ?_
  refine lv_sipush (v := 940) hx hb dX5_isWalker_6 (by decide) ?_
  obtain ⟨v3, e4, hF⟩ := ob_s hF
  refine m_iaI X hp e4 dX5_isWalker_9 ?_
  refine lv_iconst (v := 1) hx hb dX5_isWalker_10 (by decide) ?_
  refine lv_isub hx hb dX5_isWalker_11 ?_
  obtain ⟨v6, e5, hF⟩ := ob_s hF
  refine m_callS (As := [.int x1, .int (0 : Int32), .int (v3 - (1 : Int32))]) (rest := []) X hp (w_X5_within e5) q1588 q1589 q144 q1590 3 rfl ds_X5_within ⟨Nat.le_of_ble_eq_true rfl, Nat.le_of_ble_eq_true rfl⟩ hl.1 rfl (Nat.le_of_ble_eq_true rfl) dX5_isWalker_12 ⟨Nat.le_refl 0, Nat.le_refl 0⟩ (fun H locs hp => ?_)
  obtain ⟨g7, hF⟩ := gd_s hF
  cases hF
  exact m_zret X hp ((bz_iff _).mpr g7) dX5_isWalker_15
end
section
variable {l : Launch} {D : va_G} {n0 : Nat} {P : mP} {S : mSh} {M : mMm} {n : Nat} {p : Program} {e : Env} {s : State} {m : MethodId} {args : Array Value} {below : List Frame} {meth : Method} {c : Code}
abbrev Rm_X5_isFree : Room := { frames := 3, cells := 0, slots := 0, locals := 65 }
def f_X5_isFree (S : mSh) (M : mMm) (x0 : Nat) (x1 : Int32) : Option Int32 := ob (rR S M x0 6 1) fun v1 => ob (aI S M v1 100 x1) fun v3 => (if v3 = (1 : Int32) then some (0 : Int32) else ob (f_X5_whoIsAt S M x0 x1) fun v7 => (if v7 = (-1 : Int32) then some (1 : Int32) else some (0 : Int32)))
theorem w_X5_isFree {x0 : Nat} {x1 : Int32} {r : Int32} (hF : f_X5_isFree S M x0 x1 = some r) : mCt l D n0 P yX5_isFree cX5_isFree 2 (some .boolean) 3 65 0 0 [.ref x0, .int x1] S M n (some (.int r)) S M n := by
  refine m_ofW (by decide) (Nat.le_of_ble_eq_true rfl) (fun p e s m below meth c X hnm hp ls hl => ?_)
  have hx := X.1.1
  have hb := X.1.2.1
  have hown := X.1.2.2.2.1
  have hts := X.1.2.2.2.2
  have hl : lv_has ls 2 [(0, .ref x0), (1, .int x1)] := hl
  unfold f_X5_isFree at hF
  refine lv_aload_n hx hb dX5_isFree_0 rfl (lv_at hl 0 rfl) ?_
  obtain ⟨v1, e2, hF⟩ := ob_s hF
  refine m_getR X hp e2 kX5 (Nat.le_of_ble_eq_true rfl) q1460 dX5_isFree_1 ?_
  refine lv_iload_n hx hb dX5_isFree_4 rfl (lv_at hl 1 rfl) ?_
  obtain ⟨v3, e4, hF⟩ := ob_s hF
  refine m_iaI X hp e4 dX5_isFree_5 ?_
  refine lv_iconst (v := 1) hx hb dX5_isFree_6 (by decide) ?_
  refine lv_icmp_eq (tgt := 23) hx hb dX5_isFree_7 (by decide) (fun c5 => ?_) (fun c5 => ?_)
  · have hF := if_p c5 hF
    refine lv_iconst (v := 0) hx hb dX5_isFree_23 (by decide) ?_
    cases hF
    exact m_zret X hp rfl dX5_isFree_24
  · have hF := if_n c5 hF
    refine lv_aload_n hx hb dX5_isFree_10 rfl (lv_at hl 0 rfl) ?_
    refine lv_iload_n hx hb dX5_isFree_11 rfl (lv_at hl 1 rfl) ?_
    obtain ⟨v7, e6, hF⟩ := ob_s hF
    refine m_callV (As := [.int x1]) (rest := []) X hp (w_X5_whoIsAt e6) q1819 q1821 qs107 q144 q1822 1 rfl ds_X5_whoIsAt ⟨Nat.le_of_ble_eq_true rfl, Nat.le_of_ble_eq_true rfl⟩ 6 (T := TX5) (N := 40) rfl (by decide) (rR_s e2).1 hl.1 rfl (Nat.le_of_ble_eq_true rfl) dX5_isFree_12 ⟨Nat.le_refl 0, Nat.le_refl 0⟩ (fun H locs hp => ?_)
    refine lv_iconst (v := -1) hx hb dX5_isFree_15 (by decide) ?_
    refine lv_icmp_ne (tgt := 23) hx hb dX5_isFree_16 (by decide) (fun c8 => ?_) (fun c8 => ?_)
    · have hF := if_n c8 hF
      refine lv_iconst (v := 0) hx hb dX5_isFree_23 (by decide) ?_
      cases hF
      exact m_zret X hp rfl dX5_isFree_24
    · have hF := if_p c8 hF
      refine lv_iconst (v := 1) hx hb dX5_isFree_19 (by decide) ?_
      refine lv_goto (tgt := 24) hx hb dX5_isFree_20 (by decide) ?_
      cases hF
      exact m_zret X hp rfl dX5_isFree_24
end
section
variable {l : Launch} {D : va_G} {n0 : Nat} {P : mP} {S : mSh} {M : mMm} {n : Nat} {p : Program} {e : Env} {s : State} {m : MethodId} {args : Array Value} {below : List Frame} {meth : Method} {c : Code}
abbrev Rm_X5_sets : Room := { frames := 0, cells := 0, slots := 0, locals := 0 }
def f_X5_sets (S : mSh) (M : mMm) (x0 : Nat) (x1 : Int32) (x2 : Int32) (x3 : Int32) : Option mMm := ob (rR S M x0 6 1) fun v1 => ob (wA S M v1 100 (((144 : Int32) + ((12 : Int32) * x1)) + x2) (.int x3)) fun M3 => some M3
theorem w_X5_sets {x0 : Nat} {x1 : Int32} {x2 : Int32} {x3 : Int32} {M' : mMm} (hF : f_X5_sets S M x0 x1 x2 x3 = some M') : mCt l D n0 P yX5_sets cX5_sets 4 none 0 0 0 0 [.ref x0, .int x1, .int x2, .int x3] S M n none S M' n := by
  refine m_ofW (by decide) (Nat.le_of_ble_eq_true rfl) (fun p e s m below meth c X hnm hp ls hl => ?_)
  have hx := X.1.1
  have hb := X.1.2.1
  have hown := X.1.2.2.2.1
  have hts := X.1.2.2.2.2
  have hl : lv_has ls 4 [(0, .ref x0), (1, .int x1), (2, .int x2), (3, .int x3)] := hl
  unfold f_X5_sets at hF
  refine lv_aload_n hx hb dX5_sets_0 rfl (lv_at hl 0 rfl) ?_
  obtain ⟨v1, e2, hF⟩ := ob_s hF
  refine m_getR X hp e2 kX5 (Nat.le_of_ble_eq_true rfl) q1460 dX5_sets_1 ?_
  refine lv_sipush (v := 144) hx hb dX5_sets_4 (by decide) ?_
  refine lv_bipush (v := 12) hx hb dX5_sets_7 (by decide) ?_
  refine lv_iload_n hx hb dX5_sets_9 rfl (lv_at hl 1 rfl) ?_
  refine lv_imul hx hb dX5_sets_10 ?_
  refine lv_iadd hx hb dX5_sets_11 ?_
  refine lv_iload_n hx hb dX5_sets_12 rfl (lv_at hl 2 rfl) ?_
  refine lv_iadd hx hb dX5_sets_13 ?_
  refine lv_iload_n hx hb dX5_sets_14 rfl (lv_at hl 3 rfl) ?_
  obtain ⟨M3, e4, hF⟩ := ob_s hF
  refine m_iaW X hp e4 dX5_sets_15 (fun H locs hp => ?_)
  cases hF
  exact m_vret X hp dX5_sets_16
end
section
variable {l : Launch} {D : va_G} {n0 : Nat} {P : mP} {S : mSh} {M : mMm} {n : Nat} {p : Program} {e : Env} {s : State} {m : MethodId} {args : Array Value} {below : List Frame} {meth : Method} {c : Code}
abbrev Rm_X5_writes : Room := { frames := 0, cells := 0, slots := 0, locals := 0 }
def f_X5_writes (S : mSh) (M : mMm) (x0 : Nat) (x1 : Int32) (x2 : Int32) (x3 : Int32) : Option mMm := ob (rR S M x0 6 1) fun v1 => ob (aI S M v1 100 (939 : Int32)) fun v3 => (if v3 = (150 : Int32) then some M else ob (rR S M x0 6 1) fun v6 => ob (aI S M v6 100 (939 : Int32)) fun v8 => nm (((336 : Int32) + ((4 : Int32) * v8))) fun v10 => ob (rR S M x0 6 1) fun v12 => ob (rR S M x0 6 1) fun v14 => ob (aI S M v14 100 (936 : Int32)) fun v16 => ob (wA S M v12 100 v10 (.int v16)) fun M18 => ob (rR S M18 x0 6 1) fun v20 => ob (wA S M18 v20 100 (v10 + (1 : Int32)) (.int x1)) fun M22 => ob (rR S M22 x0 6 1) fun v24 => ob (wA S M22 v24 100 (v10 + (2 : Int32)) (.int x2)) fun M26 => ob (rR S M26 x0 6 1) fun v28 => ob (wA S M26 v28 100 (v10 + (3 : Int32)) (.int x3)) fun M30 => ob (rR S M30 x0 6 1) fun v32 => ob (aI S M30 v32 100 (939 : Int32)) fun v34 => ob (wA S M30 v32 100 (939 : Int32) (.int (v34 + (1 : Int32)))) fun M36 => some M36)
theorem w_X5_writes {x0 : Nat} {x1 : Int32} {x2 : Int32} {x3 : Int32} {M' : mMm} (hF : f_X5_writes S M x0 x1 x2 x3 = some M') : mCt l D n0 P yX5_writes cX5_writes 5 none 0 0 0 0 [.ref x0, .int x1, .int x2, .int x3] S M n none S M' n := by
  refine m_ofW (by decide) (Nat.le_of_ble_eq_true rfl) (fun p e s m below meth c X hnm hp ls hl => ?_)
  have hx := X.1.1
  have hb := X.1.2.1
  have hown := X.1.2.2.2.1
  have hts := X.1.2.2.2.2
  have hl : lv_has ls 5 [(0, .ref x0), (1, .int x1), (2, .int x2), (3, .int x3)] := hl
  unfold f_X5_writes at hF
  refine lv_aload_n hx hb dX5_writes_0 rfl (lv_at hl 0 rfl) ?_
  obtain ⟨v1, e2, hF⟩ := ob_s hF
  refine m_getR X hp e2 kX5 (Nat.le_of_ble_eq_true rfl) q1460 dX5_writes_1 ?_
  refine lv_sipush (v := 939) hx hb dX5_writes_4 (by decide) ?_
  obtain ⟨v3, e4, hF⟩ := ob_s hF
  refine m_iaI X hp e4 dX5_writes_7 ?_
  refine lv_sipush (v := 150) hx hb dX5_writes_8 (by decide) ?_
  refine lv_icmp_ne (tgt := 15) hx hb dX5_writes_11 (by decide) (fun c5 => ?_) (fun c5 => ?_)
  · have hF := if_n c5 hF
    refine lv_sipush (v := 336) hx hb dX5_writes_15 (by decide) ?_
    refine lv_iconst (v := 4) hx hb dX5_writes_18 (by decide) ?_
    refine lv_aload_n hx hb dX5_writes_19 rfl (lv_at hl 0 rfl) ?_
    obtain ⟨v6, e7, hF⟩ := ob_s hF
    refine m_getR X hp e7 kX5 (Nat.le_of_ble_eq_true rfl) q1460 dX5_writes_20 ?_
    refine lv_sipush (v := 939) hx hb dX5_writes_23 (by decide) ?_
    obtain ⟨v8, e9, hF⟩ := ob_s hF
    refine m_iaI X hp e9 dX5_writes_26 ?_
    refine lv_imul hx hb dX5_writes_27 ?_
    refine lv_iadd hx hb dX5_writes_28 ?_
    refine lv_topi (fun v10 ev11 => ?_)
    have hF := nm_s hF ev11
    refine lv_istore (lv' := [(4, .int v10), (0, .ref x0), (1, .int x1), (2, .int x2), (3, .int x3)]) hx hb dX5_writes_29 hl (by decide) rfl (fun ls hl => ?_)
    refine lv_aload_n hx hb dX5_writes_31 rfl (lv_at hl 1 rfl) ?_
    obtain ⟨v12, e13, hF⟩ := ob_s hF
    refine m_getR X hp e13 kX5 (Nat.le_of_ble_eq_true rfl) q1460 dX5_writes_32 ?_
    refine lv_iload hx hb dX5_writes_35 (lv_at hl 0 rfl) ?_
    refine lv_aload_n hx hb dX5_writes_37 rfl (lv_at hl 1 rfl) ?_
    obtain ⟨v14, e15, hF⟩ := ob_s hF
    refine m_getR X hp e15 kX5 (Nat.le_of_ble_eq_true rfl) q1460 dX5_writes_38 ?_
    refine lv_sipush (v := 936) hx hb dX5_writes_41 (by decide) ?_
    obtain ⟨v16, e17, hF⟩ := ob_s hF
    refine m_iaI X hp e17 dX5_writes_44 ?_
    obtain ⟨M18, e19, hF⟩ := ob_s hF
    refine m_iaW X hp e19 dX5_writes_45 (fun H locs hp => ?_)
    refine lv_aload_n hx hb dX5_writes_46 rfl (lv_at hl 1 rfl) ?_
    obtain ⟨v20, e21, hF⟩ := ob_s hF
    refine m_getR X hp e21 kX5 (Nat.le_of_ble_eq_true rfl) q1460 dX5_writes_47 ?_
    refine lv_iload hx hb dX5_writes_50 (lv_at hl 0 rfl) ?_
    refine lv_iconst (v := 1) hx hb dX5_writes_52 (by decide) ?_
    refine lv_iadd hx hb dX5_writes_53 ?_
    refine lv_iload_n hx hb dX5_writes_54 rfl (lv_at hl 2 rfl) ?_
    obtain ⟨M22, e23, hF⟩ := ob_s hF
    refine m_iaW X hp e23 dX5_writes_55 (fun H locs hp => ?_)
    refine lv_aload_n hx hb dX5_writes_56 rfl (lv_at hl 1 rfl) ?_
    obtain ⟨v24, e25, hF⟩ := ob_s hF
    refine m_getR X hp e25 kX5 (Nat.le_of_ble_eq_true rfl) q1460 dX5_writes_57 ?_
    refine lv_iload hx hb dX5_writes_60 (lv_at hl 0 rfl) ?_
    refine lv_iconst (v := 2) hx hb dX5_writes_62 (by decide) ?_
    refine lv_iadd hx hb dX5_writes_63 ?_
    refine lv_iload_n hx hb dX5_writes_64 rfl (lv_at hl 3 rfl) ?_
    obtain ⟨M26, e27, hF⟩ := ob_s hF
    refine m_iaW X hp e27 dX5_writes_65 (fun H locs hp => ?_)
    refine lv_aload_n hx hb dX5_writes_66 rfl (lv_at hl 1 rfl) ?_
    obtain ⟨v28, e29, hF⟩ := ob_s hF
    refine m_getR X hp e29 kX5 (Nat.le_of_ble_eq_true rfl) q1460 dX5_writes_67 ?_
    refine lv_iload hx hb dX5_writes_70 (lv_at hl 0 rfl) ?_
    refine lv_iconst (v := 3) hx hb dX5_writes_72 (by decide) ?_
    refine lv_iadd hx hb dX5_writes_73 ?_
    refine lv_iload_n hx hb dX5_writes_74 rfl (lv_at hl 4 rfl) ?_
    obtain ⟨M30, e31, hF⟩ := ob_s hF
    refine m_iaW X hp e31 dX5_writes_75 (fun H locs hp => ?_)
    refine lv_aload_n hx hb dX5_writes_76 rfl (lv_at hl 1 rfl) ?_
    obtain ⟨v32, e33, hF⟩ := ob_s hF
    refine m_getR X hp e33 kX5 (Nat.le_of_ble_eq_true rfl) q1460 dX5_writes_77 ?_
    refine lv_sipush (v := 939) hx hb dX5_writes_80 (by decide) ?_
    refine lv_dup2_11 hx hb dX5_writes_83 rfl rfl ?_
    obtain ⟨v34, e35, hF⟩ := ob_s hF
    refine m_iaI X hp e35 dX5_writes_84 ?_
    refine lv_iconst (v := 1) hx hb dX5_writes_85 (by decide) ?_
    refine lv_iadd hx hb dX5_writes_86 ?_
    obtain ⟨M36, e37, hF⟩ := ob_s hF
    refine m_iaW X hp e37 dX5_writes_87 (fun H locs hp => ?_)
    cases hF
    exact m_vret X hp dX5_writes_88
  · have hF := if_p c5 hF
    cases hF
    exact m_vret X hp dX5_writes_14
end
section
variable {l : Launch} {D : va_G} {n0 : Nat} {P : mP} {S : mSh} {M : mMm} {n : Nat} {p : Program} {e : Env} {s : State} {m : MethodId} {args : Array Value} {below : List Frame} {meth : Method} {c : Code}
abbrev Rm_X5_keepsPast : Room := { frames := 0, cells := 0, slots := 0, locals := 0 }
def fb_X5_keepsPast_56 (S : mSh) : Nat → mMm → Nat → Int32 → Option mMm
  | 0, _, _, _ => none
  | t + 1, M, x0, x1 => (if (940 : Int32) ≤ x1 then ob (rI S M x0 6 4) fun v25 => ob (wF S M x0 6 4 (.int (v25 + (1 : Int32)))) fun M27 => some M27 else ob (rR S M x0 6 3) fun v29 => ob (rI S M x0 6 4) fun v31 => ob (rR S M x0 6 0) fun v33 => ob (aI S M v33 100 x1) fun v35 => ob (wA S M v29 100 (((940 : Int32) * v31) + x1) (.int v35)) fun M37 => nm (x1 + (1 : Int32)) fun v39 => (fb_X5_keepsPast_56 S t M37 x0 v39))
theorem b_X5_keepsPast_56 {M' : mMm} (X : mCx D n0 P p m c cX5_keepsPast 2 s args yX5_keepsPast.cls meth none) : ∀ t : Nat, ∀ (M : mMm) (x0 : Nat) (x1 : Int32) (H : Heap) (locs : List Loc) (ls : Array Slot), mHp D n0 S M n s H locs → lv_has ls 2 [(0, .ref x0), (1, .int x1)] → fb_X5_keepsPast_56 S t M x0 x1 = some M' → W p l e Rm_X5_keepsPast s m args below meth c H locs 0 0 (MQ below (mQ D n0 none S M' n) args s 0 0 (mA n0)) (F0 m 56 ls []) := by
  have hx := X.1.1
  have hb := X.1.2.1
  have hown := X.1.2.2.2.1
  have hts := X.1.2.2.2.2
  intro t
  induction t with
  | zero =>
    intro M x0 x1 H locs ls hp hl hF
    have hF : none = some M' := hF
    cases hF
  | succ t ih =>
    intro M x0 x1 H locs ls hp hl hF
    rw [fb_X5_keepsPast_56] at hF
    refine lv_iload_n hx hb dX5_keepsPast_56 rfl (lv_at hl 1 rfl) ?_
    refine lv_sipush (v := 940) hx hb dX5_keepsPast_57 (by decide) ?_
    refine lv_icmp_ge (tgt := 90) hx hb dX5_keepsPast_60 (by decide) (fun c24 => ?_) (fun c24 => ?_)
    · have hF := if_p c24 hF
      refine lv_aload_n hx hb dX5_keepsPast_90 rfl (lv_at hl 0 rfl) ?_
      refine lv_dup hx hb dX5_keepsPast_91 rfl ?_
      obtain ⟨v25, e26, hF⟩ := ob_s hF
      refine m_getI X hp e26 kX5 (Nat.le_of_ble_eq_true rfl) q1463 dX5_keepsPast_92 ?_
      refine lv_iconst (v := 1) hx hb dX5_keepsPast_95 (by decide) ?_
      refine lv_iadd hx hb dX5_keepsPast_96 ?_
      obtain ⟨M27, e28, hF⟩ := ob_s hF
      refine m_putW X hp e28 kX5 (Nat.le_of_ble_eq_true rfl) q1463 rfl rfl rfl dX5_keepsPast_97 (fun H locs hp => ?_)
      cases hF
      exact m_vret X hp dX5_keepsPast_100
    · have hF := if_n c24 hF
      refine lv_aload_n hx hb dX5_keepsPast_63 rfl (lv_at hl 0 rfl) ?_
      obtain ⟨v29, e30, hF⟩ := ob_s hF
      refine m_getR X hp e30 kX5 (Nat.le_of_ble_eq_true rfl) q1462 dX5_keepsPast_64 ?_
      refine lv_sipush (v := 940) hx hb dX5_keepsPast_67 (by decide) ?_
      refine lv_aload_n hx hb dX5_keepsPast_70 rfl (lv_at hl 0 rfl) ?_
      obtain ⟨v31, e32, hF⟩ := ob_s hF
      refine m_getI X hp e32 kX5 (Nat.le_of_ble_eq_true rfl) q1463 dX5_keepsPast_71 ?_
      refine lv_imul hx hb dX5_keepsPast_74 ?_
      refine lv_iload_n hx hb dX5_keepsPast_75 rfl (lv_at hl 1 rfl) ?_
      refine lv_iadd hx hb dX5_keepsPast_76 ?_
      refine lv_aload_n hx hb dX5_keepsPast_77 rfl (lv_at hl 0 rfl) ?_
      obtain ⟨v33, e34, hF⟩ := ob_s hF
      refine m_getR X hp e34 kX5 (Nat.le_of_ble_eq_true rfl) q1459 dX5_keepsPast_78 ?_
      refine lv_iload_n hx hb dX5_keepsPast_81 rfl (lv_at hl 1 rfl) ?_
      obtain ⟨v35, e36, hF⟩ := ob_s hF
      refine m_iaI X hp e36 dX5_keepsPast_82 ?_
      obtain ⟨M37, e38, hF⟩ := ob_s hF
      refine m_iaW X hp e38 dX5_keepsPast_83 (fun H locs hp => ?_)
      obtain ⟨v39, ev40⟩ : ∃ y : Int32, y = x1 + (1 : Int32) := ⟨_, rfl⟩
      have hF := nm_s hF ev40
      refine lv_iinc (v := v39) (lv' := [(1, .int v39), (0, .ref x0)]) hx hb dX5_keepsPast_84 hl (k := 1) rfl (by rw [ev40]; rfl) (by decide) rfl (fun ls hl => ?_)
      refine lv_goto (tgt := 56) hx hb dX5_keepsPast_87 (by decide) ?_
      exact ih _ _ _ _ _ _ hp (lv_sub hl [1, 0] rfl) hF
def fb_X5_keepsPast_54 (S : mSh) (M : mMm) (x0 : Nat) : Option mMm := nm ((0 : Int32)) fun v22 => (fb_X5_keepsPast_56 S FU M x0 v22)
theorem b_X5_keepsPast_54 {M' : mMm} (X : mCx D n0 P p m c cX5_keepsPast 2 s args yX5_keepsPast.cls meth none) : ∀ (M : mMm) (x0 : Nat) (H : Heap) (locs : List Loc) (ls : Array Slot), mHp D n0 S M n s H locs → lv_has ls 2 [(0, .ref x0)] → fb_X5_keepsPast_54 S M x0 = some M' → W p l e Rm_X5_keepsPast s m args below meth c H locs 0 0 (MQ below (mQ D n0 none S M' n) args s 0 0 (mA n0)) (F0 m 54 ls []) := by
  have hx := X.1.1
  have hb := X.1.2.1
  have hown := X.1.2.2.2.1
  have hts := X.1.2.2.2.2
  intro M x0 H locs ls hp hl hF
  unfold fb_X5_keepsPast_54 at hF
  refine lv_iconst (v := 0) hx hb dX5_keepsPast_54 (by decide) ?_
  refine lv_topi (fun v22 ev23 => ?_)
  have hF := nm_s hF ev23
  refine lv_istore_n (lv' := [(1, .int v22), (0, .ref x0)]) hx hb dX5_keepsPast_55 rfl hl (by decide) rfl (fun ls hl => ?_)
  exact b_X5_keepsPast_56 X _ _ _ _ _ _ _ hp (lv_sub hl [1, 0] rfl) hF
def fb_X5_keepsPast_40 (S : mSh) (M : mMm) (x0 : Nat) : Option mMm := ob (rI S M x0 6 4) fun v17 => (if v17 = (6 : Int32) then ob (wF S M x0 6 4 (.int (5 : Int32))) fun M20 => (fb_X5_keepsPast_54 S M20 x0) else (fb_X5_keepsPast_54 S M x0))
theorem b_X5_keepsPast_40 {M' : mMm} (X : mCx D n0 P p m c cX5_keepsPast 2 s args yX5_keepsPast.cls meth none) : ∀ (M : mMm) (x0 : Nat) (H : Heap) (locs : List Loc) (ls : Array Slot), mHp D n0 S M n s H locs → lv_has ls 2 [(0, .ref x0)] → fb_X5_keepsPast_40 S M x0 = some M' → W p l e Rm_X5_keepsPast s m args below meth c H locs 0 0 (MQ below (mQ D n0 none S M' n) args s 0 0 (mA n0)) (F0 m 40 ls []) := by
  have hx := X.1.1
  have hb := X.1.2.1
  have hown := X.1.2.2.2.1
  have hts := X.1.2.2.2.2
  intro M x0 H locs ls hp hl hF
  unfold fb_X5_keepsPast_40 at hF
  refine lv_aload_n hx hb dX5_keepsPast_40 rfl (lv_at hl 0 rfl) ?_
  obtain ⟨v17, e18, hF⟩ := ob_s hF
  refine m_getI X hp e18 kX5 (Nat.le_of_ble_eq_true rfl) q1463 dX5_keepsPast_41 ?_
  refine lv_bipush (v := 6) hx hb dX5_keepsPast_44 (by decide) ?_
  refine lv_icmp_ne (tgt := 54) hx hb dX5_keepsPast_46 (by decide) (fun c19 => ?_) (fun c19 => ?_)
  · have hF := if_n c19 hF
    exact b_X5_keepsPast_54 X _ _ _ _ _ hp (lv_sub hl [0] rfl) hF
  · have hF := if_p c19 hF
    refine lv_aload_n hx hb dX5_keepsPast_49 rfl (lv_at hl 0 rfl) ?_
    refine lv_iconst (v := 5) hx hb dX5_keepsPast_50 (by decide) ?_
    obtain ⟨M20, e21, hF⟩ := ob_s hF
    refine m_putW X hp e21 kX5 (Nat.le_of_ble_eq_true rfl) q1463 rfl rfl rfl dX5_keepsPast_51 (fun H locs hp => ?_)
    exact b_X5_keepsPast_54 X _ _ _ _ _ hp (lv_sub hl [0] rfl) hF
def fb_X5_keepsPast_11 (S : mSh) : Nat → mMm → Nat → Int32 → Option mMm
  | 0, _, _, _ => none
  | t + 1, M, x0, x1 => (if (4700 : Int32) ≤ x1 then (fb_X5_keepsPast_40 S M x0) else ob (rR S M x0 6 3) fun v7 => ob (rR S M x0 6 3) fun v9 => ob (aI S M v9 100 (x1 + (940 : Int32))) fun v11 => ob (wA S M v7 100 x1 (.int v11)) fun M13 => nm (x1 + (1 : Int32)) fun v15 => (fb_X5_keepsPast_11 S t M13 x0 v15))
theorem b_X5_keepsPast_11 {M' : mMm} (X : mCx D n0 P p m c cX5_keepsPast 2 s args yX5_keepsPast.cls meth none) : ∀ t : Nat, ∀ (M : mMm) (x0 : Nat) (x1 : Int32) (H : Heap) (locs : List Loc) (ls : Array Slot), mHp D n0 S M n s H locs → lv_has ls 2 [(0, .ref x0), (1, .int x1)] → fb_X5_keepsPast_11 S t M x0 x1 = some M' → W p l e Rm_X5_keepsPast s m args below meth c H locs 0 0 (MQ below (mQ D n0 none S M' n) args s 0 0 (mA n0)) (F0 m 11 ls []) := by
  have hx := X.1.1
  have hb := X.1.2.1
  have hown := X.1.2.2.2.1
  have hts := X.1.2.2.2.2
  intro t
  induction t with
  | zero =>
    intro M x0 x1 H locs ls hp hl hF
    have hF : none = some M' := hF
    cases hF
  | succ t ih =>
    intro M x0 x1 H locs ls hp hl hF
    rw [fb_X5_keepsPast_11] at hF
    refine lv_iload_n hx hb dX5_keepsPast_11 rfl (lv_at hl 1 rfl) ?_
    refine lv_sipush (v := 4700) hx hb dX5_keepsPast_12 (by decide) ?_
    refine lv_icmp_ge (tgt := 40) hx hb dX5_keepsPast_15 (by decide) (fun c6 => ?_) (fun c6 => ?_)
    · have hF := if_p c6 hF
      exact b_X5_keepsPast_40 X _ _ _ _ _ hp (lv_sub hl [0] rfl) hF
    · have hF := if_n c6 hF
      refine lv_aload_n hx hb dX5_keepsPast_18 rfl (lv_at hl 0 rfl) ?_
      obtain ⟨v7, e8, hF⟩ := ob_s hF
      refine m_getR X hp e8 kX5 (Nat.le_of_ble_eq_true rfl) q1462 dX5_keepsPast_19 ?_
      refine lv_iload_n hx hb dX5_keepsPast_22 rfl (lv_at hl 1 rfl) ?_
      refine lv_aload_n hx hb dX5_keepsPast_23 rfl (lv_at hl 0 rfl) ?_
      obtain ⟨v9, e10, hF⟩ := ob_s hF
      refine m_getR X hp e10 kX5 (Nat.le_of_ble_eq_true rfl) q1462 dX5_keepsPast_24 ?_
      refine lv_iload_n hx hb dX5_keepsPast_27 rfl (lv_at hl 1 rfl) ?_
      refine lv_sipush (v := 940) hx hb dX5_keepsPast_28 (by decide) ?_
      refine lv_iadd hx hb dX5_keepsPast_31 ?_
      obtain ⟨v11, e12, hF⟩ := ob_s hF
      refine m_iaI X hp e12 dX5_keepsPast_32 ?_
      obtain ⟨M13, e14, hF⟩ := ob_s hF
      refine m_iaW X hp e14 dX5_keepsPast_33 (fun H locs hp => ?_)
      obtain ⟨v15, ev16⟩ : ∃ y : Int32, y = x1 + (1 : Int32) := ⟨_, rfl⟩
      have hF := nm_s hF ev16
      refine lv_iinc (v := v15) (lv' := [(1, .int v15), (0, .ref x0)]) hx hb dX5_keepsPast_34 hl (k := 1) rfl (by rw [ev16]; rfl) (by decide) rfl (fun ls hl => ?_)
      refine lv_goto (tgt := 11) hx hb dX5_keepsPast_37 (by decide) ?_
      exact ih _ _ _ _ _ _ hp (lv_sub hl [1, 0] rfl) hF
def f_X5_keepsPast (S : mSh) (M : mMm) (x0 : Nat) : Option mMm := ob (rI S M x0 6 4) fun v1 => (if v1 = (6 : Int32) then nm ((0 : Int32)) fun v4 => (fb_X5_keepsPast_11 S FU M x0 v4) else (fb_X5_keepsPast_40 S M x0))
theorem w_X5_keepsPast {x0 : Nat} {M' : mMm} (hF : f_X5_keepsPast S M x0 = some M') : mCt l D n0 P yX5_keepsPast cX5_keepsPast 2 none 0 0 0 0 [.ref x0] S M n none S M' n := by
  refine m_ofW (by decide) (Nat.le_of_ble_eq_true rfl) (fun p e s m below meth c X hnm hp ls hl => ?_)
  have hx := X.1.1
  have hb := X.1.2.1
  have hown := X.1.2.2.2.1
  have hts := X.1.2.2.2.2
  have hl : lv_has ls 2 [(0, .ref x0)] := hl
  unfold f_X5_keepsPast at hF
  refine lv_aload_n hx hb dX5_keepsPast_0 rfl (lv_at hl 0 rfl) ?_
  obtain ⟨v1, e2, hF⟩ := ob_s hF
  refine m_getI X hp e2 kX5 (Nat.le_of_ble_eq_true rfl) q1463 dX5_keepsPast_1 ?_
  refine lv_bipush (v := 6) hx hb dX5_keepsPast_4 (by decide) ?_
  refine lv_icmp_ne (tgt := 40) hx hb dX5_keepsPast_6 (by decide) (fun c3 => ?_) (fun c3 => ?_)
  · have hF := if_n c3 hF
    exact b_X5_keepsPast_40 X _ _ _ _ _ hp (lv_sub hl [0] rfl) hF
  · have hF := if_p c3 hF
    refine lv_iconst (v := 0) hx hb dX5_keepsPast_9 (by decide) ?_
    refine lv_topi (fun v4 ev5 => ?_)
    have hF := nm_s hF ev5
    refine lv_istore_n (lv' := [(1, .int v4), (0, .ref x0)]) hx hb dX5_keepsPast_10 rfl hl (by decide) rfl (fun ls hl => ?_)
    exact b_X5_keepsPast_11 X _ _ _ _ _ _ _ hp (lv_sub hl [1, 0] rfl) hF
end
section
variable {l : Launch} {D : va_G} {n0 : Nat} {P : mP} {S : mSh} {M : mMm} {n : Nat} {p : Program} {e : Env} {s : State} {m : MethodId} {args : Array Value} {below : List Frame} {meth : Method} {c : Code}
abbrev Rm_X5_ends : Room := { frames := 1, cells := 0, slots := 0, locals := 23 }
def f_X5_ends (S : mSh) (M : mMm) (x0 : Nat) : Option mMm := gd ((S x0).1 = 6) (ob (f_X5_keepsPast S M x0) fun M4 => ob (rR S M4 x0 6 1) fun v5 => ob (rR S M4 x0 6 0) fun v7 => ob (f_X5_copies S M4 v5 v7 (2425 : Int32)) fun M11 => some M11)
theorem w_X5_ends {x0 : Nat} {M' : mMm} (hF : f_X5_ends S M x0 = some M') : mCt l D n0 P yX5_ends cX5_ends 1 none 1 23 0 0 [.ref x0] S M n none S M' n := by
  refine m_ofW (by decide) (Nat.le_of_ble_eq_true rfl) (fun p e s m below meth c X hnm hp ls hl => ?_)
  have hx := X.1.1
  have hb := X.1.2.1
  have hown := X.1.2.2.2.1
  have hts := X.1.2.2.2.2
  have hl : lv_has ls 1 [(0, .ref x0)] := hl
  unfold f_X5_ends at hF
  refine lv_aload_n hx hb dX5_ends_0 rfl (lv_at hl 0 rfl) ?_
  obtain ⟨g1, hF⟩ := gd_s hF
  obtain ⟨M4, e2, hF⟩ := ob_s hF
  refine m_callV (As := []) (rest := []) X hp (w_X5_keepsPast e2) q1827 q1829 qs109 q144 q1830 0 rfl ds_X5_keepsPast ⟨Nat.le_of_ble_eq_true rfl, Nat.le_of_ble_eq_true rfl⟩ 6 (T := TX5) (N := 40) rfl (by decide) g1 hl.1 rfl (Nat.le_of_ble_eq_true rfl) dX5_ends_1 ⟨Nat.le_refl 0, Nat.le_refl 0⟩ (fun H locs hp => ?_)
  refine lv_aload_n hx hb dX5_ends_4 rfl (lv_at hl 0 rfl) ?_
  obtain ⟨v5, e6, hF⟩ := ob_s hF
  refine m_getR X hp e6 kX5 (Nat.le_of_ble_eq_true rfl) q1460 dX5_ends_5 ?_
  refine lv_aload_n hx hb dX5_ends_8 rfl (lv_at hl 0 rfl) ?_
  obtain ⟨v7, e8, hF⟩ := ob_s hF
  refine m_getR X hp e8 kX5 (Nat.le_of_ble_eq_true rfl) q1459 dX5_ends_9 ?_
  refine lv_sipush (v := 2425) hx hb dX5_ends_12 (by decide) ?_
  obtain ⟨M11, e9, hF⟩ := ob_s hF
  refine m_callS (As := [.ref v5, .ref v7, .int (2425 : Int32)]) (rest := []) X hp (w_X5_copies e9) q1595 q1596 q144 q1597 3 rfl ds_X5_copies ⟨Nat.le_of_ble_eq_true rfl, Nat.le_of_ble_eq_true rfl⟩ hl.1 rfl (Nat.le_of_ble_eq_true rfl) dX5_ends_15 ⟨Nat.le_refl 0, Nat.le_refl 0⟩ (fun H locs hp => ?_)
  cases hF
  exact m_vret X hp dX5_ends_18
end
section
variable {l : Launch} {D : va_G} {n0 : Nat} {P : mP} {S : mSh} {M : mMm} {n : Nat} {p : Program} {e : Env} {s : State} {m : MethodId} {args : Array Value} {below : List Frame} {meth : Method} {c : Code}
abbrev Rm_X5_comes : Room := { frames := 4, cells := 0, slots := 0, locals := 86 }
def fb_X5_comes_165 (S : mSh) (k143 : mMm → Nat → Int32 → Int32 → Option (Int32 × mMm)) (M : mMm) (x0 : Nat) (x1 : Int32) (x6 : Int32) : Option (Int32 × mMm) := nm (x6 + (1 : Int32)) fun v59 => (k143 M x0 x1 v59)
theorem b_X5_comes_165 {r : Int32} {M' : mMm} (X : mCx D n0 P p m c cX5_comes 7 s args yX5_comes.cls meth (some .boolean)) (k143 : mMm → Nat → Int32 → Int32 → Option (Int32 × mMm)) (hk143 : ∀ (M : mMm) (x0 : Nat) (x1 : Int32) (x6 : Int32) (H : Heap) (locs : List Loc) (ls : Array Slot), mHp D n0 S M n s H locs → lv_has ls 7 [(0, .ref x0), (1, .int x1), (6, .int x6)] → k143 M x0 x1 x6 = some (r, M') → W p l e Rm_X5_comes s m args below meth c H locs 0 0 (MQ below (mQ D n0 (some (.int r)) S M' n) args s 0 0 (mA n0)) (F0 m 143 ls [])) : ∀ (M : mMm) (x0 : Nat) (x1 : Int32) (x6 : Int32) (H : Heap) (locs : List Loc) (ls : Array Slot), mHp D n0 S M n s H locs → lv_has ls 7 [(0, .ref x0), (1, .int x1), (6, .int x6)] → fb_X5_comes_165 S k143 M x0 x1 x6 = some (r, M') → W p l e Rm_X5_comes s m args below meth c H locs 0 0 (MQ below (mQ D n0 (some (.int r)) S M' n) args s 0 0 (mA n0)) (F0 m 165 ls []) := by
  have hx := X.1.1
  have hb := X.1.2.1
  have hown := X.1.2.2.2.1
  have hts := X.1.2.2.2.2
  intro M x0 x1 x6 H locs ls hp hl hF
  unfold fb_X5_comes_165 at hF
  obtain ⟨v59, ev60⟩ : ∃ y : Int32, y = x6 + (1 : Int32) := ⟨_, rfl⟩
  have hF := nm_s hF ev60
  refine lv_iinc (v := v59) (lv' := [(6, .int v59), (0, .ref x0), (1, .int x1)]) hx hb dX5_comes_165 hl (k := 2) rfl (by rw [ev60]; rfl) (by decide) rfl (fun ls hl => ?_)
  refine lv_goto (tgt := 143) hx hb dX5_comes_168 (by decide) ?_
  exact hk143 _ _ _ _ _ _ _ hp (lv_sub hl [1, 2, 0] rfl) hF
def fb_X5_comes_143 (S : mSh) : Nat → mMm → Nat → Int32 → Int32 → Option (Int32 × mMm)
  | 0, _, _, _, _ => none
  | t + 1, M, x0, x1, x6 => (if (8 : Int32) < x6 then gd ((S x0).1 = 6) (ob (f_X5_standsAt S M x0 x1) fun v47 => ob (f_X5_writes S M x0 (0 : Int32) x1 v47) fun M50 => ob (f_X5_ends S M50 x0) fun M53 => some ((1 : Int32), M53)) else (if x6 = (7 : Int32) then (fb_X5_comes_165 S (fb_X5_comes_143 S t) M x0 x1 x6) else gd ((S x0).1 = 6) (ob (f_X5_sets S M x0 x1 x6 (0 : Int32)) fun M58 => (fb_X5_comes_165 S (fb_X5_comes_143 S t) M58 x0 x1 x6))))
theorem b_X5_comes_143 {r : Int32} {M' : mMm} (X : mCx D n0 P p m c cX5_comes 7 s args yX5_comes.cls meth (some .boolean)) : ∀ t : Nat, ∀ (M : mMm) (x0 : Nat) (x1 : Int32) (x6 : Int32) (H : Heap) (locs : List Loc) (ls : Array Slot), mHp D n0 S M n s H locs → lv_has ls 7 [(0, .ref x0), (1, .int x1), (6, .int x6)] → fb_X5_comes_143 S t M x0 x1 x6 = some (r, M') → W p l e Rm_X5_comes s m args below meth c H locs 0 0 (MQ below (mQ D n0 (some (.int r)) S M' n) args s 0 0 (mA n0)) (F0 m 143 ls []) := by
  have hx := X.1.1
  have hb := X.1.2.1
  have hown := X.1.2.2.2.1
  have hts := X.1.2.2.2.2
  intro t
  induction t with
  | zero =>
    intro M x0 x1 x6 H locs ls hp hl hF
    have hF : none = some (r, M') := hF
    cases hF
  | succ t ih =>
    intro M x0 x1 x6 H locs ls hp hl hF
    rw [fb_X5_comes_143] at hF
    refine lv_iload hx hb dX5_comes_143 (lv_at hl 2 rfl) ?_
    refine lv_bipush (v := 8) hx hb dX5_comes_145 (by decide) ?_
    refine lv_icmp_gt (tgt := 171) hx hb dX5_comes_147 (by decide) (fun c44 => ?_) (fun c44 => ?_)
    · have hF := if_p c44 hF
      refine lv_aload_n hx hb dX5_comes_171 rfl (lv_at hl 0 rfl) ?_
      refine lv_iconst (v := 0) hx hb dX5_comes_172 (by decide) ?_
      refine lv_iload_n hx hb dX5_comes_173 rfl (lv_at hl 1 rfl) ?_
      refine lv_aload_n hx hb dX5_comes_174 rfl (lv_at hl 0 rfl) ?_
      refine lv_iload_n hx hb dX5_comes_175 rfl (lv_at hl 1 rfl) ?_
      obtain ⟨g45, hF⟩ := gd_s hF
      obtain ⟨v47, e46, hF⟩ := ob_s hF
      refine m_callV (As := [.int x1]) (rest := [.int x1, .int (0 : Int32), .ref x0]) X hp (w_X5_standsAt e46) q1750 q1752 qs94 q144 q1753 1 rfl ds_X5_standsAt ⟨Nat.le_of_ble_eq_true rfl, Nat.le_of_ble_eq_true rfl⟩ 6 (T := TX5) (N := 40) rfl (by decide) g45 hl.1 rfl (Nat.le_of_ble_eq_true rfl) dX5_comes_176 ⟨Nat.le_refl 0, Nat.le_refl 0⟩ (fun H locs hp => ?_)
      obtain ⟨M50, e48, hF⟩ := ob_s hF
      refine m_callV (As := [.int (0 : Int32), .int x1, .int v47]) (rest := []) X hp (w_X5_writes e48) q1754 q1756 qs95 q144 q1757 3 rfl ds_X5_writes ⟨Nat.le_of_ble_eq_true rfl, Nat.le_of_ble_eq_true rfl⟩ 6 (T := TX5) (N := 40) rfl (by decide) g45 hl.1 rfl (Nat.le_of_ble_eq_true rfl) dX5_comes_179 ⟨Nat.le_refl 0, Nat.le_refl 0⟩ (fun H locs hp => ?_)
      refine lv_aload_n hx hb dX5_comes_182 rfl (lv_at hl 0 rfl) ?_
      obtain ⟨M53, e51, hF⟩ := ob_s hF
      refine m_callV (As := []) (rest := []) X hp (w_X5_ends e51) q1823 q1825 qs108 q144 q1826 0 rfl ds_X5_ends ⟨Nat.le_of_ble_eq_true rfl, Nat.le_of_ble_eq_true rfl⟩ 6 (T := TX5) (N := 40) rfl (by decide) g45 hl.1 rfl (Nat.le_of_ble_eq_true rfl) dX5_comes_183 ⟨Nat.le_refl 0, Nat.le_refl 0⟩ (fun H locs hp => ?_)
      refine lv_iconst (v := 1) hx hb dX5_comes_186 (by decide) ?_
      cases hF
      exact m_zret X hp rfl dX5_comes_187
    · have hF := if_n c44 hF
      refine lv_iload hx hb dX5_comes_150 (lv_at hl 2 rfl) ?_
      refine lv_bipush (v := 7) hx hb dX5_comes_152 (by decide) ?_
      refine lv_icmp_eq (tgt := 165) hx hb dX5_comes_154 (by decide) (fun c54 => ?_) (fun c54 => ?_)
      · have hF := if_p c54 hF
        exact b_X5_comes_165 X _ ih _ _ _ _ _ _ _ hp (lv_sub hl [0, 1, 2] rfl) hF
      · have hF := if_n c54 hF
        refine lv_aload_n hx hb dX5_comes_157 rfl (lv_at hl 0 rfl) ?_
        refine lv_iload_n hx hb dX5_comes_158 rfl (lv_at hl 1 rfl) ?_
        refine lv_iload hx hb dX5_comes_159 (lv_at hl 2 rfl) ?_
        refine lv_iconst (v := 0) hx hb dX5_comes_161 (by decide) ?_
        obtain ⟨g55, hF⟩ := gd_s hF
        obtain ⟨M58, e56, hF⟩ := ob_s hF
        refine m_callV (As := [.int x1, .int x6, .int (0 : Int32)]) (rest := []) X hp (w_X5_sets e56) q1746 q1748 qs93 q144 q1749 3 rfl ds_X5_sets ⟨Nat.le_of_ble_eq_true rfl, Nat.le_of_ble_eq_true rfl⟩ 6 (T := TX5) (N := 40) rfl (by decide) g55 hl.1 rfl (Nat.le_of_ble_eq_true rfl) dX5_comes_162 ⟨Nat.le_refl 0, Nat.le_refl 0⟩ (fun H locs hp => ?_)
        exact b_X5_comes_165 X _ ih _ _ _ _ _ _ _ hp (lv_sub hl [0, 1, 2] rfl) hF
def fb_X5_comes_74 (S : mSh) (M : mMm) (x0 : Nat) (x1 : Int32) (x2 : Int32) (x4 : Int32) (y0 : Int32) : Option (Int32 × mMm) := gd ((S x0).1 = 6) (ob (f_X5_has S M x0 x1 (1 : Int32)) fun v20 => (if v20 = (1 : Int32) then some ((0 : Int32), M) else ob (f_X5_place x4 y0) fun v23 => ob (f_X5_isFree S M x0 v23) fun v25 => (if v25 = 0 then some ((0 : Int32), M) else ob (f_X5_sets S M x0 x1 (1 : Int32) (1 : Int32)) fun M29 => ob (f_X5_sets S M29 x0 x1 (2 : Int32) x4) fun M32 => ob (f_X5_sets S M32 x0 x1 (3 : Int32) y0) fun M35 => ob (f_X5_sets S M35 x0 x1 (4 : Int32) x2) fun M38 => ob (f_X5_sets S M38 x0 x1 (7 : Int32) x2) fun M41 => nm ((5 : Int32)) fun v42 => (fb_X5_comes_143 S FU M41 x0 x1 v42))))
theorem b_X5_comes_74 {r : Int32} {M' : mMm} (X : mCx D n0 P p m c cX5_comes 7 s args yX5_comes.cls meth (some .boolean)) : ∀ (M : mMm) (x0 : Nat) (x1 : Int32) (x2 : Int32) (x4 : Int32) (y0 : Int32) (H : Heap) (locs : List Loc) (ls : Array Slot), mHp D n0 S M n s H locs → lv_has ls 7 [(0, .ref x0), (1, .int x1), (2, .int x2), (4, .int x4)] → fb_X5_comes_74 S M x0 x1 x2 x4 y0 = some (r, M') → W p l e Rm_X5_comes s m args below meth c H locs 0 0 (MQ below (mQ D n0 (some (.int r)) S M' n) args s 0 0 (mA n0)) (F0 m 74 ls [.int y0]) := by
  have hx := X.1.1
  have hb := X.1.2.1
  have hown := X.1.2.2.2.1
  have hts := X.1.2.2.2.2
  intro M x0 x1 x2 x4 y0 H locs ls hp hl hF
  unfold fb_X5_comes_74 at hF
  refine lv_istore (lv' := [(5, .int y0), (0, .ref x0), (1, .int x1), (2, .int x2), (4, .int x4)]) hx hb dX5_comes_74 hl (by decide) rfl (fun ls hl => ?_)
  refine lv_aload_n hx hb dX5_comes_76 rfl (lv_at hl 1 rfl) ?_
  refine lv_iload_n hx hb dX5_comes_77 rfl (lv_at hl 2 rfl) ?_
  refine lv_iconst (v := 1) hx hb dX5_comes_78 (by decide) ?_
  obtain ⟨g18, hF⟩ := gd_s hF
  obtain ⟨v20, e19, hF⟩ := ob_s hF
  refine m_callV (As := [.int x1, .int (1 : Int32)]) (rest := []) X hp (w_X5_has e19) q1727 q1729 qs89 q144 q1730 2 rfl ds_X5_has ⟨Nat.le_of_ble_eq_true rfl, Nat.le_of_ble_eq_true rfl⟩ 6 (T := TX5) (N := 40) rfl (by decide) g18 hl.1 rfl (Nat.le_of_ble_eq_true rfl) dX5_comes_79 ⟨Nat.le_refl 0, Nat.le_refl 0⟩ (fun H locs hp => ?_)
  refine lv_iconst (v := 1) hx hb dX5_comes_82 (by decide) ?_
  refine lv_icmp_eq (tgt := 100) hx hb dX5_comes_83 (by decide) (fun c21 => ?_) (fun c21 => ?_)
  · have hF := if_p c21 hF
    refine lv_iconst (v := 0) hx hb dX5_comes_100 (by decide) ?_
    cases hF
    exact m_zret X hp rfl dX5_comes_101
  · have hF := if_n c21 hF
    refine lv_aload_n hx hb dX5_comes_86 rfl (lv_at hl 1 rfl) ?_
    refine lv_iload hx hb dX5_comes_87 (lv_at hl 4 rfl) ?_
    refine lv_iload hx hb dX5_comes_89 (lv_at hl 0 rfl) ?_
    obtain ⟨v23, e22, hF⟩ := ob_s hF
    refine m_callS (As := [.int x4, .int y0]) (rest := [.ref x0]) X hp (w_X5_place e22) q1708 q1709 q144 q1710 2 rfl ds_X5_place ⟨Nat.le_of_ble_eq_true rfl, Nat.le_of_ble_eq_true rfl⟩ hl.1 rfl (Nat.le_of_ble_eq_true rfl) dX5_comes_91 ⟨Nat.le_refl 0, Nat.le_refl 0⟩ (fun H locs hp => ?_)
    obtain ⟨v25, e24, hF⟩ := ob_s hF
    refine m_callV (As := [.int v23]) (rest := []) X hp (w_X5_isFree e24) q1815 q1817 qs106 q144 q1818 1 rfl ds_X5_isFree ⟨Nat.le_of_ble_eq_true rfl, Nat.le_of_ble_eq_true rfl⟩ 6 (T := TX5) (N := 40) rfl (by decide) g18 hl.1 rfl (Nat.le_of_ble_eq_true rfl) dX5_comes_94 ⟨Nat.le_refl 0, Nat.le_refl 0⟩ (fun H locs hp => ?_)
    refine lv_if_ne (tgt := 102) hx hb dX5_comes_97 (by decide) (fun c26 => ?_) (fun c26 => ?_)
    · have hF := if_n c26 hF
      refine lv_aload_n hx hb dX5_comes_102 rfl (lv_at hl 1 rfl) ?_
      refine lv_iload_n hx hb dX5_comes_103 rfl (lv_at hl 2 rfl) ?_
      refine lv_iconst (v := 1) hx hb dX5_comes_104 (by decide) ?_
      refine lv_iconst (v := 1) hx hb dX5_comes_105 (by decide) ?_
      obtain ⟨M29, e27, hF⟩ := ob_s hF
      refine m_callV (As := [.int x1, .int (1 : Int32), .int (1 : Int32)]) (rest := []) X hp (w_X5_sets e27) q1746 q1748 qs93 q144 q1749 3 rfl ds_X5_sets ⟨Nat.le_of_ble_eq_true rfl, Nat.le_of_ble_eq_true rfl⟩ 6 (T := TX5) (N := 40) rfl (by decide) g18 hl.1 rfl (Nat.le_of_ble_eq_true rfl) dX5_comes_106 ⟨Nat.le_refl 0, Nat.le_refl 0⟩ (fun H locs hp => ?_)
      refine lv_aload_n hx hb dX5_comes_109 rfl (lv_at hl 1 rfl) ?_
      refine lv_iload_n hx hb dX5_comes_110 rfl (lv_at hl 2 rfl) ?_
      refine lv_iconst (v := 2) hx hb dX5_comes_111 (by decide) ?_
      refine lv_iload hx hb dX5_comes_112 (lv_at hl 4 rfl) ?_
      obtain ⟨M32, e30, hF⟩ := ob_s hF
      refine m_callV (As := [.int x1, .int (2 : Int32), .int x4]) (rest := []) X hp (w_X5_sets e30) q1746 q1748 qs93 q144 q1749 3 rfl ds_X5_sets ⟨Nat.le_of_ble_eq_true rfl, Nat.le_of_ble_eq_true rfl⟩ 6 (T := TX5) (N := 40) rfl (by decide) g18 hl.1 rfl (Nat.le_of_ble_eq_true rfl) dX5_comes_114 ⟨Nat.le_refl 0, Nat.le_refl 0⟩ (fun H locs hp => ?_)
      refine lv_aload_n hx hb dX5_comes_117 rfl (lv_at hl 1 rfl) ?_
      refine lv_iload_n hx hb dX5_comes_118 rfl (lv_at hl 2 rfl) ?_
      refine lv_iconst (v := 3) hx hb dX5_comes_119 (by decide) ?_
      refine lv_iload hx hb dX5_comes_120 (lv_at hl 0 rfl) ?_
      obtain ⟨M35, e33, hF⟩ := ob_s hF
      refine m_callV (As := [.int x1, .int (3 : Int32), .int y0]) (rest := []) X hp (w_X5_sets e33) q1746 q1748 qs93 q144 q1749 3 rfl ds_X5_sets ⟨Nat.le_of_ble_eq_true rfl, Nat.le_of_ble_eq_true rfl⟩ 6 (T := TX5) (N := 40) rfl (by decide) g18 hl.1 rfl (Nat.le_of_ble_eq_true rfl) dX5_comes_122 ⟨Nat.le_refl 0, Nat.le_refl 0⟩ (fun H locs hp => ?_)
      refine lv_aload_n hx hb dX5_comes_125 rfl (lv_at hl 1 rfl) ?_
      refine lv_iload_n hx hb dX5_comes_126 rfl (lv_at hl 2 rfl) ?_
      refine lv_iconst (v := 4) hx hb dX5_comes_127 (by decide) ?_
      refine lv_iload_n hx hb dX5_comes_128 rfl (lv_at hl 3 rfl) ?_
      obtain ⟨M38, e36, hF⟩ := ob_s hF
      refine m_callV (As := [.int x1, .int (4 : Int32), .int x2]) (rest := []) X hp (w_X5_sets e36) q1746 q1748 qs93 q144 q1749 3 rfl ds_X5_sets ⟨Nat.le_of_ble_eq_true rfl, Nat.le_of_ble_eq_true rfl⟩ 6 (T := TX5) (N := 40) rfl (by decide) g18 hl.1 rfl (Nat.le_of_ble_eq_true rfl) dX5_comes_129 ⟨Nat.le_refl 0, Nat.le_refl 0⟩ (fun H locs hp => ?_)
      refine lv_aload_n hx hb dX5_comes_132 rfl (lv_at hl 1 rfl) ?_
      refine lv_iload_n hx hb dX5_comes_133 rfl (lv_at hl 2 rfl) ?_
      refine lv_bipush (v := 7) hx hb dX5_comes_134 (by decide) ?_
      refine lv_iload_n hx hb dX5_comes_136 rfl (lv_at hl 3 rfl) ?_
      obtain ⟨M41, e39, hF⟩ := ob_s hF
      refine m_callV (As := [.int x1, .int (7 : Int32), .int x2]) (rest := []) X hp (w_X5_sets e39) q1746 q1748 qs93 q144 q1749 3 rfl ds_X5_sets ⟨Nat.le_of_ble_eq_true rfl, Nat.le_of_ble_eq_true rfl⟩ 6 (T := TX5) (N := 40) rfl (by decide) g18 hl.1 rfl (Nat.le_of_ble_eq_true rfl) dX5_comes_137 ⟨Nat.le_refl 0, Nat.le_refl 0⟩ (fun H locs hp => ?_)
      refine lv_iconst (v := 5) hx hb dX5_comes_140 (by decide) ?_
      refine lv_topi (fun v42 ev43 => ?_)
      have hF := nm_s hF ev43
      refine lv_istore (lv' := [(6, .int v42), (5, .int y0), (0, .ref x0), (1, .int x1), (2, .int x2), (4, .int x4)]) hx hb dX5_comes_141 hl (by decide) rfl (fun ls hl => ?_)
      exact b_X5_comes_143 X _ _ _ _ _ _ _ _ hp (lv_sub hl [2, 3, 0] rfl) hF
    · have hF := if_p c26 hF
      refine lv_iconst (v := 0) hx hb dX5_comes_100 (by decide) ?_
      cases hF
      exact m_zret X hp rfl dX5_comes_101
def fb_X5_comes_53 (S : mSh) (M : mMm) (x0 : Nat) (x1 : Int32) (x2 : Int32) (x3 : Int32) (y0 : Int32) : Option (Int32 × mMm) := (if x2 = 0 then (fb_X5_comes_74 S M x0 x1 x2 y0 (0 : Int32)) else (if x2 = (2 : Int32) then (fb_X5_comes_74 S M x0 x1 x2 y0 (11 : Int32)) else (fb_X5_comes_74 S M x0 x1 x2 y0 x3)))
theorem b_X5_comes_53 {r : Int32} {M' : mMm} (X : mCx D n0 P p m c cX5_comes 7 s args yX5_comes.cls meth (some .boolean)) : ∀ (M : mMm) (x0 : Nat) (x1 : Int32) (x2 : Int32) (x3 : Int32) (y0 : Int32) (H : Heap) (locs : List Loc) (ls : Array Slot), mHp D n0 S M n s H locs → lv_has ls 7 [(0, .ref x0), (1, .int x1), (2, .int x2), (3, .int x3)] → fb_X5_comes_53 S M x0 x1 x2 x3 y0 = some (r, M') → W p l e Rm_X5_comes s m args below meth c H locs 0 0 (MQ below (mQ D n0 (some (.int r)) S M' n) args s 0 0 (mA n0)) (F0 m 53 ls [.int y0]) := by
  have hx := X.1.1
  have hb := X.1.2.1
  have hown := X.1.2.2.2.1
  have hts := X.1.2.2.2.2
  intro M x0 x1 x2 x3 y0 H locs ls hp hl hF
  unfold fb_X5_comes_53 at hF
  refine lv_istore (lv' := [(4, .int y0), (0, .ref x0), (1, .int x1), (2, .int x2), (3, .int x3)]) hx hb dX5_comes_53 hl (by decide) rfl (fun ls hl => ?_)
  refine lv_iload_n hx hb dX5_comes_55 rfl (lv_at hl 3 rfl) ?_
  refine lv_if_ne (tgt := 63) hx hb dX5_comes_56 (by decide) (fun c16 => ?_) (fun c16 => ?_)
  · have hF := if_n c16 hF
    refine lv_iload_n hx hb dX5_comes_63 rfl (lv_at hl 3 rfl) ?_
    refine lv_iconst (v := 2) hx hb dX5_comes_64 (by decide) ?_
    refine lv_icmp_ne (tgt := 73) hx hb dX5_comes_65 (by decide) (fun c17 => ?_) (fun c17 => ?_)
    · have hF := if_n c17 hF
      refine lv_iload_n hx hb dX5_comes_73 rfl (lv_at hl 4 rfl) ?_
      exact b_X5_comes_74 X _ _ _ _ _ _ _ _ _ hp (lv_sub hl [1, 2, 3, 0] rfl) hF
    · have hF := if_p c17 hF
      refine lv_bipush (v := 11) hx hb dX5_comes_68 (by decide) ?_
      refine lv_goto (tgt := 74) hx hb dX5_comes_70 (by decide) ?_
      exact b_X5_comes_74 X _ _ _ _ _ _ _ _ _ hp (lv_sub hl [1, 2, 3, 0] rfl) hF
  · have hF := if_p c16 hF
    refine lv_iconst (v := 0) hx hb dX5_comes_59 (by decide) ?_
    refine lv_goto (tgt := 74) hx hb dX5_comes_60 (by decide) ?_
    exact b_X5_comes_74 X _ _ _ _ _ _ _ _ _ hp (lv_sub hl [1, 2, 3, 0] rfl) hF
def f_X5_comes (S : mSh) (M : mMm) (x0 : Nat) (x1 : Int32) (x2 : Int32) (x3 : Int32) : Option (Int32 × mMm) := gd ((S x0).1 = 6) (ob (f_X5_isWalker S M x0 x1) fun v3 => (if v3 = 0 then some ((0 : Int32), M) else ob (f_X5_within x2 (0 : Int32) (3 : Int32)) fun v6 => (if v6 = 0 then some ((0 : Int32), M) else ob (f_X5_within x3 (0 : Int32) (11 : Int32)) fun v9 => (if v9 = 0 then some ((0 : Int32), M) else ob (f_X5_begins S M x0) fun M13 => (if x2 = (1 : Int32) then (fb_X5_comes_53 S M13 x0 x1 x2 x3 (0 : Int32)) else (if x2 = (3 : Int32) then (fb_X5_comes_53 S M13 x0 x1 x2 x3 (11 : Int32)) else (fb_X5_comes_53 S M13 x0 x1 x2 x3 x3)))))))
theorem w_X5_comes {x0 : Nat} {x1 : Int32} {x2 : Int32} {x3 : Int32} {r : Int32} {M' : mMm} (hF : f_X5_comes S M x0 x1 x2 x3 = some (r, M')) : mCt l D n0 P yX5_comes cX5_comes 7 (some .boolean) 4 86 0 0 [.ref x0, .int x1, .int x2, .int x3] S M n (some (.int r)) S M' n := by
  refine m_ofW (by decide) (Nat.le_of_ble_eq_true rfl) (fun p e s m below meth c X hnm hp ls hl => ?_)
  have hx := X.1.1
  have hb := X.1.2.1
  have hown := X.1.2.2.2.1
  have hts := X.1.2.2.2.2
  have hl : lv_has ls 7 [(0, .ref x0), (1, .int x1), (2, .int x2), (3, .int x3)] := hl
  unfold f_X5_comes at hF
  refine lv_aload_n hx hb dX5_comes_0 rfl (lv_at hl 0 rfl) ?_
  refine lv_iload_n hx hb dX5_comes_1 rfl (lv_at hl 1 rfl) ?_
  obtain ⟨g1, hF⟩ := gd_s hF
  obtain ⟨v3, e2, hF⟩ := ob_s hF
  refine m_callV (As := [.int x1]) (rest := []) X hp (w_X5_isWalker e2) q1847 q1849 qs111 q144 q1850 1 rfl ds_X5_isWalker ⟨Nat.le_of_ble_eq_true rfl, Nat.le_of_ble_eq_true rfl⟩ 6 (T := TX5) (N := 40) rfl (by decide) g1 hl.1 rfl (Nat.le_of_ble_eq_true rfl) dX5_comes_2 ⟨Nat.le_refl 0, Nat.le_refl 0⟩ (fun H locs hp => ?_)
  refine lv_if_eq (tgt := 27) hx hb dX5_comes_5 (by decide) (fun c4 => ?_) (fun c4 => ?_)
  · have hF := if_p c4 hF
    refine lv_iconst (v := 0) hx hb dX5_comes_27 (by decide) ?_
    cases hF
    exact m_zret X hp rfl dX5_comes_28
  · have hF := if_n c4 hF
    refine lv_iload_n hx hb dX5_comes_8 rfl (lv_at hl 2 rfl) ?_
    refine lv_iconst (v := 0) hx hb dX5_comes_9 (by decide) ?_
    refine lv_iconst (v := 3) hx hb dX5_comes_10 (by decide) ?_
    obtain ⟨v6, e5, hF⟩ := ob_s hF
    refine m_callS (As := [.int x2, .int (0 : Int32), .int (3 : Int32)]) (rest := []) X hp (w_X5_within e5) q1588 q1589 q144 q1590 3 rfl ds_X5_within ⟨Nat.le_of_ble_eq_true rfl, Nat.le_of_ble_eq_true rfl⟩ hl.1 rfl (Nat.le_of_ble_eq_true rfl) dX5_comes_11 ⟨Nat.le_refl 0, Nat.le_refl 0⟩ (fun H locs hp => ?_)
    refine lv_if_eq (tgt := 27) hx hb dX5_comes_14 (by decide) (fun c7 => ?_) (fun c7 => ?_)
    · have hF := if_p c7 hF
      refine lv_iconst (v := 0) hx hb dX5_comes_27 (by decide) ?_
      cases hF
      exact m_zret X hp rfl dX5_comes_28
    · have hF := if_n c7 hF
      refine lv_iload_n hx hb dX5_comes_17 rfl (lv_at hl 3 rfl) ?_
      refine lv_iconst (v := 0) hx hb dX5_comes_18 (by decide) ?_
      refine lv_bipush (v := 11) hx hb dX5_comes_19 (by decide) ?_
      obtain ⟨v9, e8, hF⟩ := ob_s hF
      refine m_callS (As := [.int x3, .int (0 : Int32), .int (11 : Int32)]) (rest := []) X hp (w_X5_within e8) q1588 q1589 q144 q1590 3 rfl ds_X5_within ⟨Nat.le_of_ble_eq_true rfl, Nat.le_of_ble_eq_true rfl⟩ hl.1 rfl (Nat.le_of_ble_eq_true rfl) dX5_comes_21 ⟨Nat.le_refl 0, Nat.le_refl 0⟩ (fun H locs hp => ?_)
      refine lv_if_ne (tgt := 29) hx hb dX5_comes_24 (by decide) (fun c10 => ?_) (fun c10 => ?_)
      · have hF := if_n c10 hF
        refine lv_aload_n hx hb dX5_comes_29 rfl (lv_at hl 0 rfl) ?_
        obtain ⟨M13, e11, hF⟩ := ob_s hF
        refine m_callV (As := []) (rest := []) X hp (w_X5_begins e11) q1719 q1721 qs87 q144 q1722 0 rfl ds_X5_begins ⟨Nat.le_of_ble_eq_true rfl, Nat.le_of_ble_eq_true rfl⟩ 6 (T := TX5) (N := 40) rfl (by decide) g1 hl.1 rfl (Nat.le_of_ble_eq_true rfl) dX5_comes_30 ⟨Nat.le_refl 0, Nat.le_refl 0⟩ (fun H locs hp => ?_)
        refine lv_iload_n hx hb dX5_comes_33 rfl (lv_at hl 2 rfl) ?_
        refine lv_iconst (v := 1) hx hb dX5_comes_34 (by decide) ?_
        refine lv_icmp_ne (tgt := 42) hx hb dX5_comes_35 (by decide) (fun c14 => ?_) (fun c14 => ?_)
        · have hF := if_n c14 hF
          refine lv_iload_n hx hb dX5_comes_42 rfl (lv_at hl 2 rfl) ?_
          refine lv_iconst (v := 3) hx hb dX5_comes_43 (by decide) ?_
          refine lv_icmp_ne (tgt := 52) hx hb dX5_comes_44 (by decide) (fun c15 => ?_) (fun c15 => ?_)
          · have hF := if_n c15 hF
            refine lv_iload_n hx hb dX5_comes_52 rfl (lv_at hl 3 rfl) ?_
            exact b_X5_comes_53 X _ _ _ _ _ _ _ _ _ hp (lv_sub hl [0, 1, 2, 3] rfl) hF
          · have hF := if_p c15 hF
            refine lv_bipush (v := 11) hx hb dX5_comes_47 (by decide) ?_
            refine lv_goto (tgt := 53) hx hb dX5_comes_49 (by decide) ?_
            exact b_X5_comes_53 X _ _ _ _ _ _ _ _ _ hp (lv_sub hl [0, 1, 2, 3] rfl) hF
        · have hF := if_p c14 hF
          refine lv_iconst (v := 0) hx hb dX5_comes_38 (by decide) ?_
          refine lv_goto (tgt := 53) hx hb dX5_comes_39 (by decide) ?_
          exact b_X5_comes_53 X _ _ _ _ _ _ _ _ _ hp (lv_sub hl [0, 1, 2, 3] rfl) hF
      · have hF := if_p c10 hF
        refine lv_iconst (v := 0) hx hb dX5_comes_27 (by decide) ?_
        cases hF
        exact m_zret X hp rfl dX5_comes_28
end
