set_option maxRecDepth 100000
section
variable {l : Launch} {D : va_G} {n0 : Nat} {P : mP} {S : mSh} {M : mMm} {n : Nat} {p : Program} {e : Env} {s : State} {m : MethodId} {args : Array Value} {below : List Frame} {meth : Method} {c : Code}
abbrev Rm_J11_length : Room := { frames := 0, cells := 0, slots := 0, locals := 0 }
def f_J11_length (S : mSh) (M : mMm) (x0 : Nat) : Option Int32 := ob (aN S x0 101) fun v1 => some (v1 >>> ((1 : Int32) &&& 31))
theorem w_J11_length {x0 : Nat} {r : Int32} (hF : f_J11_length S M x0 = some r) : mCt l D n0 P yJ11_length cJ11_length 1 (some .int) 0 0 0 0 [.ref x0] S M n (some (.int r)) S M n := by
  refine m_ofW (by decide) (Nat.le_of_ble_eq_true rfl) (fun p e s m below meth c X hnm hp ls hl => ?_)
  have hx := X.1.1
  have hb := X.1.2.1
  have hown := X.1.2.2.2.1
  have hts := X.1.2.2.2.2
  have hl : lv_has ls 1 [(0, .ref x0)] := hl
  unfold f_J11_length at hF
  refine lv_aload_n hx hb dJ11_length_0 rfl (lv_at hl 0 rfl) ?_
  obtain ⟨v1, e2, hF⟩ := ob_s hF
  refine m_aln 101 X hp e2 rfl (by decide) dJ11_length_1 ?_
  refine lv_iconst (v := 1) hx hb dJ11_length_2 (by decide) ?_
  refine lv_ishr hx hb dJ11_length_3 ?_
  cases hF
  exact m_iret X hp dJ11_length_4
end
section
variable {l : Launch} {D : va_G} {n0 : Nat} {P : mP} {S : mSh} {M : mMm} {n : Nat} {p : Program} {e : Env} {s : State} {m : MethodId} {args : Array Value} {below : List Frame} {meth : Method} {c : Code}
abbrev Rm_J4_max : Room := { frames := 0, cells := 0, slots := 0, locals := 0 }
def f_J4_max (x0 : Int32) (x1 : Int32) : Option Int32 := (if x0 < x1 then some x1 else some x0)
theorem w_J4_max {x0 : Int32} {x1 : Int32} {r : Int32} (hF : f_J4_max x0 x1 = some r) : mCt l D n0 P yJ4_max cJ4_max 2 (some .int) 0 0 0 0 [.int x0, .int x1] S M n (some (.int r)) S M n := by
  refine m_ofF (by decide +kernel) (Nat.le_of_ble_eq_true rfl) (fun p e s m below meth c X hnm hp ls hl => ?_)
  have hx := X.1.1
  have hb := X.1.2.1
  have hown := X.1.2.2.2.1
  have hts := X.1.2.2.2.2
  have hl : lv_has ls 2 [(0, .int x0), (1, .int x1)] := hl
  unfold f_J4_max at hF
  refine lv_iload_n hx hb dJ4_max_0 rfl (lv_at hl 0 rfl) ?_
  refine lv_iload_n hx hb dJ4_max_1 rfl (lv_at hl 1 rfl) ?_
  refine lv_icmp_lt (tgt := 9) hx hb dJ4_max_2 (by decide) (fun c1 => ?_) (fun c1 => ?_)
  · have hF := if_p c1 hF
    refine lv_iload_n hx hb dJ4_max_9 rfl (lv_at hl 1 rfl) ?_
    cases hF
    exact m_iret X hp dJ4_max_10
  · have hF := if_n c1 hF
    refine lv_iload_n hx hb dJ4_max_5 rfl (lv_at hl 0 rfl) ?_
    refine lv_goto (tgt := 10) hx hb dJ4_max_6 (by decide) ?_
    cases hF
    exact m_iret X hp dJ4_max_10
end
section
variable {l : Launch} {D : va_G} {n0 : Nat} {P : mP} {S : mSh} {M : mMm} {n : Nat} {p : Program} {e : Env} {s : State} {m : MethodId} {args : Array Value} {below : List Frame} {meth : Method} {c : Code}
abbrev Rm_J3_newLength : Room := { frames := 1, cells := 0, slots := 0, locals := 21 }
def fb_J3_newLength_21 (x0 : Int32) (x1 : Int32) : Option Int32 := none
theorem b_J3_newLength_21 {r : Int32} (X : mCx D n0 P p m c cJ3_newLength 4 s args yJ3_newLength.cls meth (some .int)) : ∀ (x0 : Int32) (x1 : Int32) (H : Heap) (locs : List Loc) (ls : Array Slot), mHp D n0 S M n s H locs → lv_has ls 4 [(0, .int x0), (1, .int x1)] → fb_J3_newLength_21 x0 x1 = some r → W p l e Rm_J3_newLength s m args below meth c H locs 0 0 (MQ below (mQ D n0 (some (.int r)) S M n) args s 0 0 (mA n0)) (F0 m 21 ls []) := by
  have hx := X.1.1
  have hb := X.1.2.1
  have hown := X.1.2.2.2.1
  have hts := X.1.2.2.2.2
  intro x0 x1 H locs ls hp hl hF
  unfold fb_J3_newLength_21 at hF
  cases hF
def f_J3_newLength (x0 : Int32) (x1 : Int32) (x2 : Int32) : Option Int32 := ob (f_J4_max x1 x2) fun v2 => nm ((x0 + v2)) fun v3 => (if v3 ≤ (0 : Int32) then (fb_J3_newLength_21 x0 x1) else (if (2147483639 : Int32) < v3 then (fb_J3_newLength_21 x0 x1) else some v3))
theorem w_J3_newLength {x0 : Int32} {x1 : Int32} {x2 : Int32} {r : Int32} (hF : f_J3_newLength x0 x1 x2 = some r) : mCt l D n0 P yJ3_newLength cJ3_newLength 4 (some .int) 1 21 0 0 [.int x0, .int x1, .int x2] S M n (some (.int r)) S M n := by
  refine m_ofW (by decide) (Nat.le_of_ble_eq_true rfl) (fun p e s m below meth c X hnm hp ls hl => ?_)
  have hx := X.1.1
  have hb := X.1.2.1
  have hown := X.1.2.2.2.1
  have hts := X.1.2.2.2.2
  have hl : lv_has ls 4 [(0, .int x0), (1, .int x1), (2, .int x2)] := hl
  unfold f_J3_newLength at hF
  refine lv_iload_n hx hb dJ3_newLength_0 rfl (lv_at hl 0 rfl) ?_
  refine lv_iload_n hx hb dJ3_newLength_1 rfl (lv_at hl 1 rfl) ?_
  refine lv_iload_n hx hb dJ3_newLength_2 rfl (lv_at hl 2 rfl) ?_
  obtain ⟨v2, e1, hF⟩ := ob_s hF
  refine m_callS (As := [.int x1, .int x2]) (rest := [.int x0]) X hp (w_J4_max e1) q332 q333 q141 q334 2 rfl ds_J4_max ⟨Nat.le_of_ble_eq_true rfl, Nat.le_of_ble_eq_true rfl⟩ hl.1 rfl (Nat.le_of_ble_eq_true rfl) dJ3_newLength_3 ⟨Nat.le_refl 0, Nat.le_refl 0⟩ (fun H locs hp => ?_)
  refine lv_iadd hx hb dJ3_newLength_6 ?_
  refine lv_topi (fun v3 ev4 => ?_)
  have hF := nm_s hF ev4
  refine lv_istore_n (lv' := [(3, .int v3), (0, .int x0), (1, .int x1), (2, .int x2)]) hx hb dJ3_newLength_7 rfl hl (by decide) rfl (fun ls hl => ?_)
  refine lv_iconst (v := 0) hx hb dJ3_newLength_8 (by decide) ?_
  refine lv_iload_n hx hb dJ3_newLength_9 rfl (lv_at hl 0 rfl) ?_
  refine lv_icmp_ge (tgt := 21) hx hb dJ3_newLength_10 (by decide) (fun c5 => ?_) (fun c5 => ?_)
  · have hF := if_p c5 hF
    exact b_J3_newLength_21 X _ _ _ _ _ hp (lv_sub hl [1, 2] rfl) hF
  · have hF := if_n c5 hF
    refine lv_iload_n hx hb dJ3_newLength_13 rfl (lv_at hl 0 rfl) ?_
    refine lv_ldc hx hb hown (hts _ q335) dJ3_newLength_14 ?_
    refine lv_icmp_gt (tgt := 21) hx hb dJ3_newLength_16 (by decide) (fun c6 => ?_) (fun c6 => ?_)
    · have hF := if_p c6 hF
      exact b_J3_newLength_21 X _ _ _ _ _ hp (lv_sub hl [1, 2] rfl) hF
    · have hF := if_n c6 hF
      refine lv_iload_n hx hb dJ3_newLength_19 rfl (lv_at hl 0 rfl) ?_
      cases hF
      exact m_iret X hp dJ3_newLength_20
end
section
variable {l : Launch} {D : va_G} {n0 : Nat} {P : mP} {S : mSh} {M : mMm} {n : Nat} {p : Program} {e : Env} {s : State} {m : MethodId} {args : Array Value} {below : List Frame} {meth : Method} {c : Code}
abbrev Rm_J4_min : Room := { frames := 0, cells := 0, slots := 0, locals := 0 }
def f_J4_min (x0 : Int32) (x1 : Int32) : Option Int32 := (if x1 < x0 then some x1 else some x0)
theorem w_J4_min {x0 : Int32} {x1 : Int32} {r : Int32} (hF : f_J4_min x0 x1 = some r) : mCt l D n0 P yJ4_min cJ4_min 2 (some .int) 0 0 0 0 [.int x0, .int x1] S M n (some (.int r)) S M n := by
  refine m_ofF (by decide +kernel) (Nat.le_of_ble_eq_true rfl) (fun p e s m below meth c X hnm hp ls hl => ?_)
  have hx := X.1.1
  have hb := X.1.2.1
  have hown := X.1.2.2.2.1
  have hts := X.1.2.2.2.2
  have hl : lv_has ls 2 [(0, .int x0), (1, .int x1)] := hl
  unfold f_J4_min at hF
  refine lv_iload_n hx hb dJ4_min_0 rfl (lv_at hl 0 rfl) ?_
  refine lv_iload_n hx hb dJ4_min_1 rfl (lv_at hl 1 rfl) ?_
  refine lv_icmp_gt (tgt := 9) hx hb dJ4_min_2 (by decide) (fun c1 => ?_) (fun c1 => ?_)
  · have hF := if_p c1 hF
    refine lv_iload_n hx hb dJ4_min_9 rfl (lv_at hl 1 rfl) ?_
    cases hF
    exact m_iret X hp dJ4_min_10
  · have hF := if_n c1 hF
    refine lv_iload_n hx hb dJ4_min_5 rfl (lv_at hl 0 rfl) ?_
    refine lv_goto (tgt := 10) hx hb dJ4_min_6 (by decide) ?_
    cases hF
    exact m_iret X hp dJ4_min_10
end
section
variable {l : Launch} {D : va_G} {n0 : Nat} {P : mP} {S : mSh} {M : mMm} {n : Nat} {p : Program} {e : Env} {s : State} {m : MethodId} {args : Array Value} {below : List Frame} {meth : Method} {c : Code}
abbrev Rm_J2_elementData : Room := { frames := 0, cells := 0, slots := 0, locals := 0 }
def f_J2_elementData (S : mSh) (M : mMm) (x0 : Nat) (x1 : Int32) : Option Nat := ob (rR S M x0 15 1) fun v1 => ob (aR S M v1 107 x1) fun v3 => some v3
theorem w_J2_elementData {x0 : Nat} {x1 : Int32} {r : Nat} (hF : f_J2_elementData S M x0 x1 = some r) : mCt l D n0 P yJ2_elementData cJ2_elementData 2 (some (.object "java/lang/Object")) 0 0 0 0 [.ref x0, .int x1] S M n (some (.ref r)) S M n := by
  refine m_ofW (by decide) (Nat.le_of_ble_eq_true rfl) (fun p e s m below meth c X hnm hp ls hl => ?_)
  have hx := X.1.1
  have hb := X.1.2.1
  have hown := X.1.2.2.2.1
  have hts := X.1.2.2.2.2
  have hl : lv_has ls 2 [(0, .ref x0), (1, .int x1)] := hl
  unfold f_J2_elementData at hF
  refine lv_aload_n hx hb dJ2_elementData_0 rfl (lv_at hl 0 rfl) ?_
  obtain ⟨v1, e2, hF⟩ := ob_s hF
  refine m_getR X hp e2 kJ2 (Nat.le_of_ble_eq_true rfl) q234 dJ2_elementData_1 ?_
  refine lv_iload_n hx hb dJ2_elementData_4 rfl (lv_at hl 1 rfl) ?_
  obtain ⟨v3, e4, hF⟩ := ob_s hF
  refine m_aaR 107 X hp e4 rfl (by decide) rfl dJ2_elementData_5 ?_
  cases hF
  exact m_aret X hp (Or.inl ⟨_, rfl⟩) dJ2_elementData_6
end
section
variable {l : Launch} {D : va_G} {n0 : Nat} {P : mP} {S : mSh} {M : mMm} {n : Nat} {p : Program} {e : Env} {s : State} {m : MethodId} {args : Array Value} {below : List Frame} {meth : Method} {c : Code}
abbrev Rm_J6_checkIndex : Room := { frames := 1, cells := 0, slots := 0, locals := 22 }
def f_J6_checkIndex (x0 : Int32) (x1 : Int32) : Option Int32 := ob (f_J7_checkIndex x0 x1) fun v2 => some v2
theorem w_J6_checkIndex {x0 : Int32} {x1 : Int32} {r : Int32} (hF : f_J6_checkIndex x0 x1 = some r) : mCt l D n0 P yJ6_checkIndex cJ6_checkIndex 2 (some .int) 1 22 0 0 [.int x0, .int x1] S M n (some (.int r)) S M n := by
  refine m_ofW (by decide) (Nat.le_of_ble_eq_true rfl) (fun p e s m below meth c X hnm hp ls hl => ?_)
  have hx := X.1.1
  have hb := X.1.2.1
  have hown := X.1.2.2.2.1
  have hts := X.1.2.2.2.2
  have hl : lv_has ls 2 [(0, .int x0), (1, .int x1)] := hl
  unfold f_J6_checkIndex at hF
  refine lv_iload_n hx hb dJ6_checkIndex_0 rfl (lv_at hl 0 rfl) ?_
  refine lv_iload_n hx hb dJ6_checkIndex_1 rfl (lv_at hl 1 rfl) ?_
  refine lv_null hx hb dJ6_checkIndex_2 ?_
  obtain ⟨v2, e1, hF⟩ := ob_s hF
  refine m_callS (As := [.int x0, .int x1, .null]) (rest := []) X hp (w_J7_checkIndex e1) q956 q674 q146 q675 3 rfl ds_J7_checkIndex ⟨Nat.le_of_ble_eq_true rfl, Nat.le_of_ble_eq_true rfl⟩ hl.1 rfl (Nat.le_of_ble_eq_true rfl) dJ6_checkIndex_3 ⟨Nat.le_refl 0, Nat.le_refl 0⟩ (fun H locs hp => ?_)
  cases hF
  exact m_iret X hp dJ6_checkIndex_6
end
section
variable {l : Launch} {D : va_G} {n0 : Nat} {P : mP} {S : mSh} {M : mMm} {n : Nat} {p : Program} {e : Env} {s : State} {m : MethodId} {args : Array Value} {below : List Frame} {meth : Method} {c : Code}
abbrev Rm_J2_get : Room := { frames := 2, cells := 0, slots := 0, locals := 43 }
def f_J2_get (S : mSh) (M : mMm) (x0 : Nat) (x1 : Int32) : Option Nat := ob (rI S M x0 15 2) fun v1 => ob (f_J6_checkIndex x1 v1) fun v4 => ob (f_J2_elementData S M x0 x1) fun v6 => some v6
theorem w_J2_get {x0 : Nat} {x1 : Int32} {r : Nat} (hF : f_J2_get S M x0 x1 = some r) : mCt l D n0 P yJ2_get cJ2_get 2 (some (.object "java/lang/Object")) 2 43 0 0 [.ref x0, .int x1] S M n (some (.ref r)) S M n := by
  refine m_ofW (by decide) (Nat.le_of_ble_eq_true rfl) (fun p e s m below meth c X hnm hp ls hl => ?_)
  have hx := X.1.1
  have hb := X.1.2.1
  have hown := X.1.2.2.2.1
  have hts := X.1.2.2.2.2
  have hl : lv_has ls 2 [(0, .ref x0), (1, .int x1)] := hl
  unfold f_J2_get at hF
  refine lv_iload_n hx hb dJ2_get_0 rfl (lv_at hl 1 rfl) ?_
  refine lv_aload_n hx hb dJ2_get_1 rfl (lv_at hl 0 rfl) ?_
  obtain ⟨v1, e2, hF⟩ := ob_s hF
  refine m_getI X hp e2 kJ2 (Nat.le_of_ble_eq_true rfl) q235 dJ2_get_2 ?_
  obtain ⟨v4, e3, hF⟩ := ob_s hF
  refine m_callS (As := [.int x1, .int v1]) (rest := []) X hp (w_J6_checkIndex e3) q953 q954 q145 q955 2 rfl ds_J6_checkIndex ⟨Nat.le_of_ble_eq_true rfl, Nat.le_of_ble_eq_true rfl⟩ hl.1 rfl (Nat.le_of_ble_eq_true rfl) dJ2_get_5 ⟨Nat.le_refl 0, Nat.le_refl 0⟩ (fun H locs hp => ?_)
  refine lv_pop hx hb dJ2_get_8 rfl ?_
  refine lv_aload_n hx hb dJ2_get_9 rfl (lv_at hl 0 rfl) ?_
  refine lv_iload_n hx hb dJ2_get_10 rfl (lv_at hl 1 rfl) ?_
  obtain ⟨v6, e5, hF⟩ := ob_s hF
  refine m_callV (As := [.int x1]) (rest := []) X hp (w_J2_elementData e5) q957 q958 q959 q138 q960 1 rfl ds_J2_elementData ⟨Nat.le_of_ble_eq_true rfl, Nat.le_of_ble_eq_true rfl⟩ 15 (T := TJ2) (N := 3) rfl (by decide) (rI_s e2).1 hl.1 rfl (Nat.le_of_ble_eq_true rfl) dJ2_get_11 ⟨Nat.le_refl 0, Nat.le_refl 0⟩ (fun H locs hp => ?_)
  cases hF
  exact m_aret X hp (Or.inl ⟨_, rfl⟩) dJ2_get_14
end
section
variable {l : Launch} {D : va_G} {n0 : Nat} {P : mP} {S : mSh} {M : mMm} {n : Nat} {p : Program} {e : Env} {s : State} {m : MethodId} {args : Array Value} {below : List Frame} {meth : Method} {c : Code}
abbrev Rm_J2_set : Room := { frames := 2, cells := 0, slots := 0, locals := 43 }
def f_J2_set (S : mSh) (M : mMm) (x0 : Nat) (x1 : Int32) (x2 : Nat) : Option (Nat × mMm) := ob (rI S M x0 15 2) fun v1 => ob (f_J6_checkIndex x1 v1) fun v4 => ob (f_J2_elementData S M x0 x1) fun v6 => ob (rR S M x0 15 1) fun v7 => gd (0 < (S x2).1 ∧ (S x2).1 < 16) (ob (wA S M v7 107 x1 (.ref x2)) fun M9 => some (v6, M9))
theorem w_J2_set {x0 : Nat} {x1 : Int32} {x2 : Nat} {r : Nat} {M' : mMm} (hF : f_J2_set S M x0 x1 x2 = some (r, M')) : mCt l D n0 P yJ2_set cJ2_set 4 (some (.object "java/lang/Object")) 2 43 0 0 [.ref x0, .int x1, .ref x2] S M n (some (.ref r)) S M' n := by
  refine m_ofW (by decide) (Nat.le_of_ble_eq_true rfl) (fun p e s m below meth c X hnm hp ls hl => ?_)
  have hx := X.1.1
  have hb := X.1.2.1
  have hown := X.1.2.2.2.1
  have hts := X.1.2.2.2.2
  have hl : lv_has ls 4 [(0, .ref x0), (1, .int x1), (2, .ref x2)] := hl
  unfold f_J2_set at hF
  refine lv_iload_n hx hb dJ2_set_0 rfl (lv_at hl 1 rfl) ?_
  refine lv_aload_n hx hb dJ2_set_1 rfl (lv_at hl 0 rfl) ?_
  obtain ⟨v1, e2, hF⟩ := ob_s hF
  refine m_getI X hp e2 kJ2 (Nat.le_of_ble_eq_true rfl) q235 dJ2_set_2 ?_
  obtain ⟨v4, e3, hF⟩ := ob_s hF
  refine m_callS (As := [.int x1, .int v1]) (rest := []) X hp (w_J6_checkIndex e3) q953 q954 q145 q955 2 rfl ds_J6_checkIndex ⟨Nat.le_of_ble_eq_true rfl, Nat.le_of_ble_eq_true rfl⟩ hl.1 rfl (Nat.le_of_ble_eq_true rfl) dJ2_set_5 ⟨Nat.le_refl 0, Nat.le_refl 0⟩ (fun H locs hp => ?_)
  refine lv_pop hx hb dJ2_set_8 rfl ?_
  refine lv_aload_n hx hb dJ2_set_9 rfl (lv_at hl 0 rfl) ?_
  refine lv_iload_n hx hb dJ2_set_10 rfl (lv_at hl 1 rfl) ?_
  obtain ⟨v6, e5, hF⟩ := ob_s hF
  refine m_callV (As := [.int x1]) (rest := []) X hp (w_J2_elementData e5) q957 q958 q959 q138 q960 1 rfl ds_J2_elementData ⟨Nat.le_of_ble_eq_true rfl, Nat.le_of_ble_eq_true rfl⟩ 15 (T := TJ2) (N := 3) rfl (by decide) (rI_s e2).1 hl.1 rfl (Nat.le_of_ble_eq_true rfl) dJ2_set_11 ⟨Nat.le_refl 0, Nat.le_refl 0⟩ (fun H locs hp => ?_)
  refine lv_astore_n (lv' := [(3, .ref v6), (0, .ref x0), (1, .int x1), (2, .ref x2)]) hx hb dJ2_set_14 rfl hl (by decide) rfl (fun ls hl => ?_)
  refine lv_aload_n hx hb dJ2_set_15 rfl (lv_at hl 1 rfl) ?_
  obtain ⟨v7, e8, hF⟩ := ob_s hF
  refine m_getR X hp e8 kJ2 (Nat.le_of_ble_eq_true rfl) q234 dJ2_set_16 ?_
  refine lv_iload_n hx hb dJ2_set_19 rfl (lv_at hl 2 rfl) ?_
  refine lv_aload_n hx hb dJ2_set_20 rfl (lv_at hl 3 rfl) ?_
  obtain ⟨g11, hF⟩ := gd_s hF
  obtain ⟨M9, e10, hF⟩ := ob_s hF
  refine m_aaO X hp e10 g11 dJ2_set_21 (fun H locs hp => ?_)
  refine lv_aload_n hx hb dJ2_set_22 rfl (lv_at hl 0 rfl) ?_
  cases hF
  exact m_aret X hp (Or.inl ⟨_, rfl⟩) dJ2_set_23
end
section
variable {l : Launch} {D : va_G} {n0 : Nat} {P : mP} {S : mSh} {M : mMm} {n : Nat} {p : Program} {e : Env} {s : State} {m : MethodId} {args : Array Value} {below : List Frame} {meth : Method} {c : Code}
abbrev Rm_J2_size : Room := { frames := 0, cells := 0, slots := 0, locals := 0 }
def f_J2_size (S : mSh) (M : mMm) (x0 : Nat) : Option Int32 := ob (rI S M x0 15 2) fun v1 => some v1
theorem w_J2_size {x0 : Nat} {r : Int32} (hF : f_J2_size S M x0 = some r) : mCt l D n0 P yJ2_size cJ2_size 1 (some .int) 0 0 0 0 [.ref x0] S M n (some (.int r)) S M n := by
  refine m_ofW (by decide) (Nat.le_of_ble_eq_true rfl) (fun p e s m below meth c X hnm hp ls hl => ?_)
  have hx := X.1.1
  have hb := X.1.2.1
  have hown := X.1.2.2.2.1
  have hts := X.1.2.2.2.2
  have hl : lv_has ls 1 [(0, .ref x0)] := hl
  unfold f_J2_size at hF
  refine lv_aload_n hx hb dJ2_size_0 rfl (lv_at hl 0 rfl) ?_
  obtain ⟨v1, e2, hF⟩ := ob_s hF
  refine m_getI X hp e2 kJ2 (Nat.le_of_ble_eq_true rfl) q235 dJ2_size_1 ?_
  cases hF
  exact m_iret X hp dJ2_size_4
end
section
variable {l : Launch} {D : va_G} {n0 : Nat} {P : mP} {S : mSh} {M : mMm} {n : Nat} {p : Program} {e : Env} {s : State} {m : MethodId} {args : Array Value} {below : List Frame} {meth : Method} {c : Code}
abbrev Rm_J4_abs : Room := { frames := 0, cells := 0, slots := 0, locals := 0 }
def f_J4_abs (x0 : Int32) : Option Int32 := (if 0 ≤ x0 then some x0 else some (-x0))
theorem w_J4_abs {x0 : Int32} {r : Int32} (hF : f_J4_abs x0 = some r) : mCt l D n0 P yJ4_abs cJ4_abs 1 (some .int) 0 0 0 0 [.int x0] S M n (some (.int r)) S M n := by
  refine m_ofF (by decide +kernel) (Nat.le_of_ble_eq_true rfl) (fun p e s m below meth c X hnm hp ls hl => ?_)
  have hx := X.1.1
  have hb := X.1.2.1
  have hown := X.1.2.2.2.1
  have hts := X.1.2.2.2.2
  have hl : lv_has ls 1 [(0, .int x0)] := hl
  unfold f_J4_abs at hF
  refine lv_iload_n hx hb dJ4_abs_0 rfl (lv_at hl 0 rfl) ?_
  refine lv_if_ge (tgt := 9) hx hb dJ4_abs_1 (by decide) (fun c1 => ?_) (fun c1 => ?_)
  · have hF := if_p c1 hF
    refine lv_iload_n hx hb dJ4_abs_9 rfl (lv_at hl 0 rfl) ?_
    cases hF
    exact m_iret X hp dJ4_abs_10
  · have hF := if_n c1 hF
    refine lv_iload_n hx hb dJ4_abs_4 rfl (lv_at hl 0 rfl) ?_
    refine lv_ineg hx hb dJ4_abs_5 ?_
    refine lv_goto (tgt := 10) hx hb dJ4_abs_6 (by decide) ?_
    cases hF
    exact m_iret X hp dJ4_abs_10
end
section
variable {l : Launch} {D : va_G} {n0 : Nat} {P : mP} {S : mSh} {M : mMm} {n : Nat} {p : Program} {e : Env} {s : State} {m : MethodId} {args : Array Value} {below : List Frame} {meth : Method} {c : Code}
abbrev Rm_J4_floorDiv : Room := { frames := 0, cells := 0, slots := 0, locals := 0 }
def f_J4_floorDiv (x0 : Int32) (x1 : Int32) : Option Int32 := gd (¬ x1 = 0) (nm ((x0 / x1)) fun v2 => (if 0 ≤ (x0 ^^^ x1) then some v2 else (if (v2 * x1) = x0 then some v2 else some (v2 - (1 : Int32)))))
theorem w_J4_floorDiv {x0 : Int32} {x1 : Int32} {r : Int32} (hF : f_J4_floorDiv x0 x1 = some r) : mCt l D n0 P yJ4_floorDiv cJ4_floorDiv 3 (some .int) 0 0 0 0 [.int x0, .int x1] S M n (some (.int r)) S M n := by
  refine m_ofF (by decide +kernel) (Nat.le_of_ble_eq_true rfl) (fun p e s m below meth c X hnm hp ls hl => ?_)
  have hx := X.1.1
  have hb := X.1.2.1
  have hown := X.1.2.2.2.1
  have hts := X.1.2.2.2.2
  have hl : lv_has ls 3 [(0, .int x0), (1, .int x1)] := hl
  unfold f_J4_floorDiv at hF
  refine lv_iload_n hx hb dJ4_floorDiv_0 rfl (lv_at hl 0 rfl) ?_
  refine lv_iload_n hx hb dJ4_floorDiv_1 rfl (lv_at hl 1 rfl) ?_
  obtain ⟨g1, hF⟩ := gd_s hF
  refine lv_idiv hx hb dJ4_floorDiv_2 g1 ?_
  refine lv_topi (fun v2 ev3 => ?_)
  have hF := nm_s hF ev3
  refine lv_istore_n (lv' := [(2, .int v2), (0, .int x0), (1, .int x1)]) hx hb dJ4_floorDiv_3 rfl hl (by decide) rfl (fun ls hl => ?_)
  refine lv_iload_n hx hb dJ4_floorDiv_4 rfl (lv_at hl 1 rfl) ?_
  refine lv_iload_n hx hb dJ4_floorDiv_5 rfl (lv_at hl 2 rfl) ?_
  refine lv_ixor hx hb dJ4_floorDiv_6 ?_
  refine lv_if_ge (tgt := 21) hx hb dJ4_floorDiv_7 (by decide) (fun c4 => ?_) (fun c4 => ?_)
  · have hF := if_p c4 hF
    refine lv_iload_n hx hb dJ4_floorDiv_21 rfl (lv_at hl 0 rfl) ?_
    cases hF
    exact m_iret X hp dJ4_floorDiv_22
  · have hF := if_n c4 hF
    refine lv_iload_n hx hb dJ4_floorDiv_10 rfl (lv_at hl 0 rfl) ?_
    refine lv_iload_n hx hb dJ4_floorDiv_11 rfl (lv_at hl 2 rfl) ?_
    refine lv_imul hx hb dJ4_floorDiv_12 ?_
    refine lv_iload_n hx hb dJ4_floorDiv_13 rfl (lv_at hl 1 rfl) ?_
    refine lv_icmp_eq (tgt := 21) hx hb dJ4_floorDiv_14 (by decide) (fun c5 => ?_) (fun c5 => ?_)
    · have hF := if_p c5 hF
      refine lv_iload_n hx hb dJ4_floorDiv_21 rfl (lv_at hl 0 rfl) ?_
      cases hF
      exact m_iret X hp dJ4_floorDiv_22
    · have hF := if_n c5 hF
      refine lv_iload_n hx hb dJ4_floorDiv_17 rfl (lv_at hl 0 rfl) ?_
      refine lv_iconst (v := 1) hx hb dJ4_floorDiv_18 (by decide) ?_
      refine lv_isub hx hb dJ4_floorDiv_19 ?_
      cases hF
      exact m_iret X hp dJ4_floorDiv_20
end
section
variable {l : Launch} {D : va_G} {n0 : Nat} {P : mP} {S : mSh} {M : mMm} {n : Nat} {p : Program} {e : Env} {s : State} {m : MethodId} {args : Array Value} {below : List Frame} {meth : Method} {c : Code}
abbrev Rm_J4_floorMod : Room := { frames := 0, cells := 0, slots := 0, locals := 0 }
def f_J4_floorMod (x0 : Int32) (x1 : Int32) : Option Int32 := gd (¬ x1 = 0) (nm ((x0 - x0 / x1 * x1)) fun v2 => (if 0 ≤ (x0 ^^^ x1) then some v2 else (if v2 = 0 then some v2 else some (v2 + x1))))
theorem w_J4_floorMod {x0 : Int32} {x1 : Int32} {r : Int32} (hF : f_J4_floorMod x0 x1 = some r) : mCt l D n0 P yJ4_floorMod cJ4_floorMod 3 (some .int) 0 0 0 0 [.int x0, .int x1] S M n (some (.int r)) S M n := by
  refine m_ofF (by decide +kernel) (Nat.le_of_ble_eq_true rfl) (fun p e s m below meth c X hnm hp ls hl => ?_)
  have hx := X.1.1
  have hb := X.1.2.1
  have hown := X.1.2.2.2.1
  have hts := X.1.2.2.2.2
  have hl : lv_has ls 3 [(0, .int x0), (1, .int x1)] := hl
  unfold f_J4_floorMod at hF
  refine lv_iload_n hx hb dJ4_floorMod_0 rfl (lv_at hl 0 rfl) ?_
  refine lv_iload_n hx hb dJ4_floorMod_1 rfl (lv_at hl 1 rfl) ?_
  obtain ⟨g1, hF⟩ := gd_s hF
  refine lv_irem hx hb dJ4_floorMod_2 g1 ?_
  refine lv_topi (fun v2 ev3 => ?_)
  have hF := nm_s hF ev3
  refine lv_istore_n (lv' := [(2, .int v2), (0, .int x0), (1, .int x1)]) hx hb dJ4_floorMod_3 rfl hl (by decide) rfl (fun ls hl => ?_)
  refine lv_iload_n hx hb dJ4_floorMod_4 rfl (lv_at hl 1 rfl) ?_
  refine lv_iload_n hx hb dJ4_floorMod_5 rfl (lv_at hl 2 rfl) ?_
  refine lv_ixor hx hb dJ4_floorMod_6 ?_
  refine lv_if_ge (tgt := 18) hx hb dJ4_floorMod_7 (by decide) (fun c4 => ?_) (fun c4 => ?_)
  · have hF := if_p c4 hF
    refine lv_iload_n hx hb dJ4_floorMod_18 rfl (lv_at hl 0 rfl) ?_
    cases hF
    exact m_iret X hp dJ4_floorMod_19
  · have hF := if_n c4 hF
    refine lv_iload_n hx hb dJ4_floorMod_10 rfl (lv_at hl 0 rfl) ?_
    refine lv_if_eq (tgt := 18) hx hb dJ4_floorMod_11 (by decide) (fun c5 => ?_) (fun c5 => ?_)
    · have hF := if_p c5 hF
      refine lv_iload_n hx hb dJ4_floorMod_18 rfl (lv_at hl 0 rfl) ?_
      cases hF
      exact m_iret X hp dJ4_floorMod_19
    · have hF := if_n c5 hF
      refine lv_iload_n hx hb dJ4_floorMod_14 rfl (lv_at hl 0 rfl) ?_
      refine lv_iload_n hx hb dJ4_floorMod_15 rfl (lv_at hl 2 rfl) ?_
      refine lv_iadd hx hb dJ4_floorMod_16 ?_
      cases hF
      exact m_iret X hp dJ4_floorMod_17
end
section
variable {l : Launch} {D : va_G} {n0 : Nat} {P : mP} {S : mSh} {M : mMm} {n : Nat} {p : Program} {e : Env} {s : State} {m : MethodId} {args : Array Value} {below : List Frame} {meth : Method} {c : Code}
abbrev Rm_J8_bitCount : Room := { frames := 0, cells := 0, slots := 0, locals := 0 }
def f_J8_bitCount (x0 : Int32) : Option Int32 := nm ((x0 - ((x0.toUInt32 >>> ((1 : Int32).toUInt32 &&& Int32.toUInt32 31)).toInt32 &&& (1431655765 : Int32)))) fun v1 => nm (((v1 &&& (858993459 : Int32)) + ((v1.toUInt32 >>> ((2 : Int32).toUInt32 &&& Int32.toUInt32 31)).toInt32 &&& (858993459 : Int32)))) fun v3 => nm (((v3 + (v3.toUInt32 >>> ((4 : Int32).toUInt32 &&& Int32.toUInt32 31)).toInt32) &&& (252645135 : Int32))) fun v5 => nm ((v5 + (v5.toUInt32 >>> ((8 : Int32).toUInt32 &&& Int32.toUInt32 31)).toInt32)) fun v7 => nm ((v7 + (v7.toUInt32 >>> ((16 : Int32).toUInt32 &&& Int32.toUInt32 31)).toInt32)) fun v9 => some (v9 &&& (63 : Int32))
theorem w_J8_bitCount {x0 : Int32} {r : Int32} (hF : f_J8_bitCount x0 = some r) : mCt l D n0 P yJ8_bitCount cJ8_bitCount 1 (some .int) 0 0 0 0 [.int x0] S M n (some (.int r)) S M n := by
  refine m_ofW (by decide) (Nat.le_of_ble_eq_true rfl) (fun p e s m below meth c X hnm hp ls hl => ?_)
  have hx := X.1.1
  have hb := X.1.2.1
  have hown := X.1.2.2.2.1
  have hts := X.1.2.2.2.2
  have hl : lv_has ls 1 [(0, .int x0)] := hl
  unfold f_J8_bitCount at hF
  refine lv_iload_n hx hb dJ8_bitCount_0 rfl (lv_at hl 0 rfl) ?_
  refine lv_iload_n hx hb dJ8_bitCount_1 rfl (lv_at hl 0 rfl) ?_
  refine lv_iconst (v := 1) hx hb dJ8_bitCount_2 (by decide) ?_
  refine lv_iushr hx hb dJ8_bitCount_3 rfl ?_
  refine lv_ldcw hx hb hown (hts _ q1153) dJ8_bitCount_4 ?_
  refine lv_iand hx hb dJ8_bitCount_7 ?_
  refine lv_isub hx hb dJ8_bitCount_8 ?_
  refine lv_topi (fun v1 ev2 => ?_)
  have hF := nm_s hF ev2
  refine lv_istore_n (lv' := [(0, .int v1)]) hx hb dJ8_bitCount_9 rfl hl (by decide) rfl (fun ls hl => ?_)
  refine lv_iload_n hx hb dJ8_bitCount_10 rfl (lv_at hl 0 rfl) ?_
  refine lv_ldcw hx hb hown (hts _ q1154) dJ8_bitCount_11 ?_
  refine lv_iand hx hb dJ8_bitCount_14 ?_
  refine lv_iload_n hx hb dJ8_bitCount_15 rfl (lv_at hl 0 rfl) ?_
  refine lv_iconst (v := 2) hx hb dJ8_bitCount_16 (by decide) ?_
  refine lv_iushr hx hb dJ8_bitCount_17 rfl ?_
  refine lv_ldcw hx hb hown (hts _ q1154) dJ8_bitCount_18 ?_
  refine lv_iand hx hb dJ8_bitCount_21 ?_
  refine lv_iadd hx hb dJ8_bitCount_22 ?_
  refine lv_topi (fun v3 ev4 => ?_)
  have hF := nm_s hF ev4
  refine lv_istore_n (lv' := [(0, .int v3)]) hx hb dJ8_bitCount_23 rfl hl (by decide) rfl (fun ls hl => ?_)
  refine lv_iload_n hx hb dJ8_bitCount_24 rfl (lv_at hl 0 rfl) ?_
  refine lv_iload_n hx hb dJ8_bitCount_25 rfl (lv_at hl 0 rfl) ?_
  refine lv_iconst (v := 4) hx hb dJ8_bitCount_26 (by decide) ?_
  refine lv_iushr hx hb dJ8_bitCount_27 rfl ?_
  refine lv_iadd hx hb dJ8_bitCount_28 ?_
  refine lv_ldcw hx hb hown (hts _ q1155) dJ8_bitCount_29 ?_
  refine lv_iand hx hb dJ8_bitCount_32 ?_
  refine lv_topi (fun v5 ev6 => ?_)
  have hF := nm_s hF ev6
  refine lv_istore_n (lv' := [(0, .int v5)]) hx hb dJ8_bitCount_33 rfl hl (by decide) rfl (fun ls hl => ?_)
  refine lv_iload_n hx hb dJ8_bitCount_34 rfl (lv_at hl 0 rfl) ?_
  refine lv_iload_n hx hb dJ8_bitCount_35 rfl (lv_at hl 0 rfl) ?_
  refine lv_bipush (v := 8) hx hb dJ8_bitCount_36 (by decide) ?_
  refine lv_iushr hx hb dJ8_bitCount_38 rfl ?_
  refine lv_iadd hx hb dJ8_bitCount_39 ?_
  refine lv_topi (fun v7 ev8 => ?_)
  have hF := nm_s hF ev8
  refine lv_istore_n (lv' := [(0, .int v7)]) hx hb dJ8_bitCount_40 rfl hl (by decide) rfl (fun ls hl => ?_)
  refine lv_iload_n hx hb dJ8_bitCount_41 rfl (lv_at hl 0 rfl) ?_
  refine lv_iload_n hx hb dJ8_bitCount_42 rfl (lv_at hl 0 rfl) ?_
  refine lv_bipush (v := 16) hx hb dJ8_bitCount_43 (by decide) ?_
  refine lv_iushr hx hb dJ8_bitCount_45 rfl ?_
  refine lv_iadd hx hb dJ8_bitCount_46 ?_
  refine lv_topi (fun v9 ev10 => ?_)
  have hF := nm_s hF ev10
  refine lv_istore_n (lv' := [(0, .int v9)]) hx hb dJ8_bitCount_47 rfl hl (by decide) rfl (fun ls hl => ?_)
  refine lv_iload_n hx hb dJ8_bitCount_48 rfl (lv_at hl 0 rfl) ?_
  refine lv_bipush (v := 63) hx hb dJ8_bitCount_49 (by decide) ?_
  refine lv_iand hx hb dJ8_bitCount_51 ?_
  cases hF
  exact m_iret X hp dJ8_bitCount_52
end
section
variable {l : Launch} {D : va_G} {n0 : Nat} {P : mP} {S : mSh} {M : mMm} {n : Nat} {p : Program} {e : Env} {s : State} {m : MethodId} {args : Array Value} {below : List Frame} {meth : Method} {c : Code}
abbrev Rm_J8_lowestOneBit : Room := { frames := 0, cells := 0, slots := 0, locals := 0 }
def f_J8_lowestOneBit (x0 : Int32) : Option Int32 := some (x0 &&& (-x0))
theorem w_J8_lowestOneBit {x0 : Int32} {r : Int32} (hF : f_J8_lowestOneBit x0 = some r) : mCt l D n0 P yJ8_lowestOneBit cJ8_lowestOneBit 1 (some .int) 0 0 0 0 [.int x0] S M n (some (.int r)) S M n := by
  refine m_ofW (by decide) (Nat.le_of_ble_eq_true rfl) (fun p e s m below meth c X hnm hp ls hl => ?_)
  have hx := X.1.1
  have hb := X.1.2.1
  have hown := X.1.2.2.2.1
  have hts := X.1.2.2.2.2
  have hl : lv_has ls 1 [(0, .int x0)] := hl
  unfold f_J8_lowestOneBit at hF
  refine lv_iload_n hx hb dJ8_lowestOneBit_0 rfl (lv_at hl 0 rfl) ?_
  refine lv_iload_n hx hb dJ8_lowestOneBit_1 rfl (lv_at hl 0 rfl) ?_
  refine lv_ineg hx hb dJ8_lowestOneBit_2 ?_
  refine lv_iand hx hb dJ8_lowestOneBit_3 ?_
  cases hF
  exact m_iret X hp dJ8_lowestOneBit_4
end
section
variable {l : Launch} {D : va_G} {n0 : Nat} {P : mP} {S : mSh} {M : mMm} {n : Nat} {p : Program} {e : Env} {s : State} {m : MethodId} {args : Array Value} {below : List Frame} {meth : Method} {c : Code}
abbrev Rm_J8_numberOfTrailingZeros : Room := { frames := 0, cells := 0, slots := 0, locals := 0 }
def fb_J8_numberOfTrailingZeros_74 (x0 : Int32) (x1 : Int32) : Option Int32 := some (x1 + (x0.toUInt32 >>> ((1 : Int32).toUInt32 &&& Int32.toUInt32 31)).toInt32)
theorem b_J8_numberOfTrailingZeros_74 {r : Int32} (X : mCx D n0 P p m c cJ8_numberOfTrailingZeros 2 s args yJ8_numberOfTrailingZeros.cls meth (some .int)) : ∀ (x0 : Int32) (x1 : Int32) (H : Heap) (locs : List Loc) (ls : Array Slot), mHp D n0 S M n s H locs → lv_has ls 2 [(0, .int x0), (1, .int x1)] → fb_J8_numberOfTrailingZeros_74 x0 x1 = some r → W p l e Rm_J8_numberOfTrailingZeros s m args below meth c H locs 0 0 (MQ below (mQ D n0 (some (.int r)) S M n) args s 0 0 (mA n0)) (F0 m 74 ls []) := by
  have hx := X.1.1
  have hb := X.1.2.1
  have hown := X.1.2.2.2.1
  have hts := X.1.2.2.2.2
  intro x0 x1 H locs ls hp hl hF
  unfold fb_J8_numberOfTrailingZeros_74 at hF
  refine lv_iload_n hx hb dJ8_numberOfTrailingZeros_74 rfl (lv_at hl 1 rfl) ?_
  refine lv_iload_n hx hb dJ8_numberOfTrailingZeros_75 rfl (lv_at hl 0 rfl) ?_
  refine lv_iconst (v := 1) hx hb dJ8_numberOfTrailingZeros_76 (by decide) ?_
  refine lv_iushr hx hb dJ8_numberOfTrailingZeros_77 rfl ?_
  refine lv_iadd hx hb dJ8_numberOfTrailingZeros_78 ?_
  cases hF
  exact m_iret X hp dJ8_numberOfTrailingZeros_79
def fb_J8_numberOfTrailingZeros_62 (x0 : Int32) (x1 : Int32) : Option Int32 := (if x0 ≤ (4 : Int32) then (fb_J8_numberOfTrailingZeros_74 x0 x1) else nm (x1 + (2 : Int32)) fun v22 => nm ((x0.toUInt32 >>> ((2 : Int32).toUInt32 &&& Int32.toUInt32 31)).toInt32) fun v24 => (fb_J8_numberOfTrailingZeros_74 v24 v22))
theorem b_J8_numberOfTrailingZeros_62 {r : Int32} (X : mCx D n0 P p m c cJ8_numberOfTrailingZeros 2 s args yJ8_numberOfTrailingZeros.cls meth (some .int)) : ∀ (x0 : Int32) (x1 : Int32) (H : Heap) (locs : List Loc) (ls : Array Slot), mHp D n0 S M n s H locs → lv_has ls 2 [(0, .int x0), (1, .int x1)] → fb_J8_numberOfTrailingZeros_62 x0 x1 = some r → W p l e Rm_J8_numberOfTrailingZeros s m args below meth c H locs 0 0 (MQ below (mQ D n0 (some (.int r)) S M n) args s 0 0 (mA n0)) (F0 m 62 ls []) := by
  have hx := X.1.1
  have hb := X.1.2.1
  have hown := X.1.2.2.2.1
  have hts := X.1.2.2.2.2
  intro x0 x1 H locs ls hp hl hF
  unfold fb_J8_numberOfTrailingZeros_62 at hF
  refine lv_iload_n hx hb dJ8_numberOfTrailingZeros_62 rfl (lv_at hl 0 rfl) ?_
  refine lv_iconst (v := 4) hx hb dJ8_numberOfTrailingZeros_63 (by decide) ?_
  refine lv_icmp_le (tgt := 74) hx hb dJ8_numberOfTrailingZeros_64 (by decide) (fun c21 => ?_) (fun c21 => ?_)
  · have hF := if_p c21 hF
    exact b_J8_numberOfTrailingZeros_74 X _ _ _ _ _ hp (lv_sub hl [0, 1] rfl) hF
  · have hF := if_n c21 hF
    obtain ⟨v22, ev23⟩ : ∃ y : Int32, y = x1 + (2 : Int32) := ⟨_, rfl⟩
    have hF := nm_s hF ev23
    refine lv_iinc (v := v22) (lv' := [(1, .int v22), (0, .int x0)]) hx hb dJ8_numberOfTrailingZeros_67 hl (k := 1) rfl (by rw [ev23]; rfl) (by decide) rfl (fun ls hl => ?_)
    refine lv_iload_n hx hb dJ8_numberOfTrailingZeros_70 rfl (lv_at hl 1 rfl) ?_
    refine lv_iconst (v := 2) hx hb dJ8_numberOfTrailingZeros_71 (by decide) ?_
    refine lv_iushr hx hb dJ8_numberOfTrailingZeros_72 rfl ?_
    refine lv_topi (fun v24 ev25 => ?_)
    have hF := nm_s hF ev25
    refine lv_istore_n (lv' := [(0, .int v24), (1, .int v22)]) hx hb dJ8_numberOfTrailingZeros_73 rfl hl (by decide) rfl (fun ls hl => ?_)
    exact b_J8_numberOfTrailingZeros_74 X _ _ _ _ _ hp (lv_sub hl [0, 1] rfl) hF
def fb_J8_numberOfTrailingZeros_49 (x0 : Int32) (x1 : Int32) : Option Int32 := (if x0 ≤ (16 : Int32) then (fb_J8_numberOfTrailingZeros_62 x0 x1) else nm (x1 + (4 : Int32)) fun v17 => nm ((x0.toUInt32 >>> ((4 : Int32).toUInt32 &&& Int32.toUInt32 31)).toInt32) fun v19 => (fb_J8_numberOfTrailingZeros_62 v19 v17))
theorem b_J8_numberOfTrailingZeros_49 {r : Int32} (X : mCx D n0 P p m c cJ8_numberOfTrailingZeros 2 s args yJ8_numberOfTrailingZeros.cls meth (some .int)) : ∀ (x0 : Int32) (x1 : Int32) (H : Heap) (locs : List Loc) (ls : Array Slot), mHp D n0 S M n s H locs → lv_has ls 2 [(0, .int x0), (1, .int x1)] → fb_J8_numberOfTrailingZeros_49 x0 x1 = some r → W p l e Rm_J8_numberOfTrailingZeros s m args below meth c H locs 0 0 (MQ below (mQ D n0 (some (.int r)) S M n) args s 0 0 (mA n0)) (F0 m 49 ls []) := by
  have hx := X.1.1
  have hb := X.1.2.1
  have hown := X.1.2.2.2.1
  have hts := X.1.2.2.2.2
  intro x0 x1 H locs ls hp hl hF
  unfold fb_J8_numberOfTrailingZeros_49 at hF
  refine lv_iload_n hx hb dJ8_numberOfTrailingZeros_49 rfl (lv_at hl 0 rfl) ?_
  refine lv_bipush (v := 16) hx hb dJ8_numberOfTrailingZeros_50 (by decide) ?_
  refine lv_icmp_le (tgt := 62) hx hb dJ8_numberOfTrailingZeros_52 (by decide) (fun c16 => ?_) (fun c16 => ?_)
  · have hF := if_p c16 hF
    exact b_J8_numberOfTrailingZeros_62 X _ _ _ _ _ hp (lv_sub hl [0, 1] rfl) hF
  · have hF := if_n c16 hF
    obtain ⟨v17, ev18⟩ : ∃ y : Int32, y = x1 + (4 : Int32) := ⟨_, rfl⟩
    have hF := nm_s hF ev18
    refine lv_iinc (v := v17) (lv' := [(1, .int v17), (0, .int x0)]) hx hb dJ8_numberOfTrailingZeros_55 hl (k := 1) rfl (by rw [ev18]; rfl) (by decide) rfl (fun ls hl => ?_)
    refine lv_iload_n hx hb dJ8_numberOfTrailingZeros_58 rfl (lv_at hl 1 rfl) ?_
    refine lv_iconst (v := 4) hx hb dJ8_numberOfTrailingZeros_59 (by decide) ?_
    refine lv_iushr hx hb dJ8_numberOfTrailingZeros_60 rfl ?_
    refine lv_topi (fun v19 ev20 => ?_)
    have hF := nm_s hF ev20
    refine lv_istore_n (lv' := [(0, .int v19), (1, .int v17)]) hx hb dJ8_numberOfTrailingZeros_61 rfl hl (by decide) rfl (fun ls hl => ?_)
    exact b_J8_numberOfTrailingZeros_62 X _ _ _ _ _ hp (lv_sub hl [0, 1] rfl) hF
def fb_J8_numberOfTrailingZeros_34 (x0 : Int32) (x1 : Int32) : Option Int32 := (if x0 ≤ (256 : Int32) then (fb_J8_numberOfTrailingZeros_49 x0 x1) else nm (x1 + (8 : Int32)) fun v12 => nm ((x0.toUInt32 >>> ((8 : Int32).toUInt32 &&& Int32.toUInt32 31)).toInt32) fun v14 => (fb_J8_numberOfTrailingZeros_49 v14 v12))
theorem b_J8_numberOfTrailingZeros_34 {r : Int32} (X : mCx D n0 P p m c cJ8_numberOfTrailingZeros 2 s args yJ8_numberOfTrailingZeros.cls meth (some .int)) : ∀ (x0 : Int32) (x1 : Int32) (H : Heap) (locs : List Loc) (ls : Array Slot), mHp D n0 S M n s H locs → lv_has ls 2 [(0, .int x0), (1, .int x1)] → fb_J8_numberOfTrailingZeros_34 x0 x1 = some r → W p l e Rm_J8_numberOfTrailingZeros s m args below meth c H locs 0 0 (MQ below (mQ D n0 (some (.int r)) S M n) args s 0 0 (mA n0)) (F0 m 34 ls []) := by
  have hx := X.1.1
  have hb := X.1.2.1
  have hown := X.1.2.2.2.1
  have hts := X.1.2.2.2.2
  intro x0 x1 H locs ls hp hl hF
  unfold fb_J8_numberOfTrailingZeros_34 at hF
  refine lv_iload_n hx hb dJ8_numberOfTrailingZeros_34 rfl (lv_at hl 0 rfl) ?_
  refine lv_sipush (v := 256) hx hb dJ8_numberOfTrailingZeros_35 (by decide) ?_
  refine lv_icmp_le (tgt := 49) hx hb dJ8_numberOfTrailingZeros_38 (by decide) (fun c11 => ?_) (fun c11 => ?_)
  · have hF := if_p c11 hF
    exact b_J8_numberOfTrailingZeros_49 X _ _ _ _ _ hp (lv_sub hl [0, 1] rfl) hF
  · have hF := if_n c11 hF
    obtain ⟨v12, ev13⟩ : ∃ y : Int32, y = x1 + (8 : Int32) := ⟨_, rfl⟩
    have hF := nm_s hF ev13
    refine lv_iinc (v := v12) (lv' := [(1, .int v12), (0, .int x0)]) hx hb dJ8_numberOfTrailingZeros_41 hl (k := 1) rfl (by rw [ev13]; rfl) (by decide) rfl (fun ls hl => ?_)
    refine lv_iload_n hx hb dJ8_numberOfTrailingZeros_44 rfl (lv_at hl 1 rfl) ?_
    refine lv_bipush (v := 8) hx hb dJ8_numberOfTrailingZeros_45 (by decide) ?_
    refine lv_iushr hx hb dJ8_numberOfTrailingZeros_47 rfl ?_
    refine lv_topi (fun v14 ev15 => ?_)
    have hF := nm_s hF ev15
    refine lv_istore_n (lv' := [(0, .int v14), (1, .int v12)]) hx hb dJ8_numberOfTrailingZeros_48 rfl hl (by decide) rfl (fun ls hl => ?_)
    exact b_J8_numberOfTrailingZeros_49 X _ _ _ _ _ hp (lv_sub hl [0, 1] rfl) hF
def f_J8_numberOfTrailingZeros (x0 : Int32) : Option Int32 := nm (((x0 ^^^ (-1 : Int32)) &&& (x0 - (1 : Int32)))) fun v1 => (if 0 < v1 then nm ((1 : Int32)) fun v4 => (if v1 ≤ (65536 : Int32) then (fb_J8_numberOfTrailingZeros_34 v1 v4) else nm (v4 + (16 : Int32)) fun v7 => nm ((v1.toUInt32 >>> ((16 : Int32).toUInt32 &&& Int32.toUInt32 31)).toInt32) fun v9 => (fb_J8_numberOfTrailingZeros_34 v9 v7)) else some (v1 &&& (32 : Int32)))
theorem w_J8_numberOfTrailingZeros {x0 : Int32} {r : Int32} (hF : f_J8_numberOfTrailingZeros x0 = some r) : mCt l D n0 P yJ8_numberOfTrailingZeros cJ8_numberOfTrailingZeros 2 (some .int) 0 0 0 0 [.int x0] S M n (some (.int r)) S M n := by
  refine m_ofW (by decide) (Nat.le_of_ble_eq_true rfl) (fun p e s m below meth c X hnm hp ls hl => ?_)
  have hx := X.1.1
  have hb := X.1.2.1
  have hown := X.1.2.2.2.1
  have hts := X.1.2.2.2.2
  have hl : lv_has ls 2 [(0, .int x0)] := hl
  unfold f_J8_numberOfTrailingZeros at hF
  refine lv_iload_n hx hb dJ8_numberOfTrailingZeros_0 rfl (lv_at hl 0 rfl) ?_
  refine lv_iconst (v := -1) hx hb dJ8_numberOfTrailingZeros_1 (by decide) ?_
  refine lv_ixor hx hb dJ8_numberOfTrailingZeros_2 ?_
  refine lv_iload_n hx hb dJ8_numberOfTrailingZeros_3 rfl (lv_at hl 0 rfl) ?_
  refine lv_iconst (v := 1) hx hb dJ8_numberOfTrailingZeros_4 (by decide) ?_
  refine lv_isub hx hb dJ8_numberOfTrailingZeros_5 ?_
  refine lv_iand hx hb dJ8_numberOfTrailingZeros_6 ?_
  refine lv_topi (fun v1 ev2 => ?_)
  have hF := nm_s hF ev2
  refine lv_istore_n (lv' := [(0, .int v1)]) hx hb dJ8_numberOfTrailingZeros_7 rfl hl (by decide) rfl (fun ls hl => ?_)
  refine lv_iload_n hx hb dJ8_numberOfTrailingZeros_8 rfl (lv_at hl 0 rfl) ?_
  refine lv_if_gt (tgt := 17) hx hb dJ8_numberOfTrailingZeros_9 (by decide) (fun c3 => ?_) (fun c3 => ?_)
  · have hF := if_p c3 hF
    refine lv_iconst (v := 1) hx hb dJ8_numberOfTrailingZeros_17 (by decide) ?_
    refine lv_topi (fun v4 ev5 => ?_)
    have hF := nm_s hF ev5
    refine lv_istore_n (lv' := [(1, .int v4), (0, .int v1)]) hx hb dJ8_numberOfTrailingZeros_18 rfl hl (by decide) rfl (fun ls hl => ?_)
    refine lv_iload_n hx hb dJ8_numberOfTrailingZeros_19 rfl (lv_at hl 1 rfl) ?_
    refine lv_ldcw hx hb hown (hts _ q1435) dJ8_numberOfTrailingZeros_20 ?_
    refine lv_icmp_le (tgt := 34) hx hb dJ8_numberOfTrailingZeros_23 (by decide) (fun c6 => ?_) (fun c6 => ?_)
    · have hF := if_p c6 hF
      exact b_J8_numberOfTrailingZeros_34 X _ _ _ _ _ hp (lv_sub hl [1, 0] rfl) hF
    · have hF := if_n c6 hF
      obtain ⟨v7, ev8⟩ : ∃ y : Int32, y = v4 + (16 : Int32) := ⟨_, rfl⟩
      have hF := nm_s hF ev8
      refine lv_iinc (v := v7) (lv' := [(1, .int v7), (0, .int v1)]) hx hb dJ8_numberOfTrailingZeros_26 hl (k := 0) rfl (by rw [ev8]; rfl) (by decide) rfl (fun ls hl => ?_)
      refine lv_iload_n hx hb dJ8_numberOfTrailingZeros_29 rfl (lv_at hl 1 rfl) ?_
      refine lv_bipush (v := 16) hx hb dJ8_numberOfTrailingZeros_30 (by decide) ?_
      refine lv_iushr hx hb dJ8_numberOfTrailingZeros_32 rfl ?_
      refine lv_topi (fun v9 ev10 => ?_)
      have hF := nm_s hF ev10
      refine lv_istore_n (lv' := [(0, .int v9), (1, .int v7)]) hx hb dJ8_numberOfTrailingZeros_33 rfl hl (by decide) rfl (fun ls hl => ?_)
      exact b_J8_numberOfTrailingZeros_34 X _ _ _ _ _ hp (lv_sub hl [0, 1] rfl) hF
  · have hF := if_n c3 hF
    refine lv_iload_n hx hb dJ8_numberOfTrailingZeros_12 rfl (lv_at hl 0 rfl) ?_
    refine lv_bipush (v := 32) hx hb dJ8_numberOfTrailingZeros_13 (by decide) ?_
    refine lv_iand hx hb dJ8_numberOfTrailingZeros_15 ?_
    cases hF
    exact m_iret X hp dJ8_numberOfTrailingZeros_16
end
section
variable {l : Launch} {D : va_G} {n0 : Nat} {P : mP} {S : mSh} {M : mMm} {n : Nat} {p : Program} {e : Env} {s : State} {m : MethodId} {args : Array Value} {below : List Frame} {meth : Method} {c : Code}
abbrev Rm_J8_signum : Room := { frames := 0, cells := 0, slots := 0, locals := 0 }
def f_J8_signum (x0 : Int32) : Option Int32 := some ((x0 >>> ((31 : Int32) &&& 31)) ||| ((-x0).toUInt32 >>> ((31 : Int32).toUInt32 &&& Int32.toUInt32 31)).toInt32)
theorem w_J8_signum {x0 : Int32} {r : Int32} (hF : f_J8_signum x0 = some r) : mCt l D n0 P yJ8_signum cJ8_signum 1 (some .int) 0 0 0 0 [.int x0] S M n (some (.int r)) S M n := by
  refine m_ofW (by decide) (Nat.le_of_ble_eq_true rfl) (fun p e s m below meth c X hnm hp ls hl => ?_)
  have hx := X.1.1
  have hb := X.1.2.1
  have hown := X.1.2.2.2.1
  have hts := X.1.2.2.2.2
  have hl : lv_has ls 1 [(0, .int x0)] := hl
  unfold f_J8_signum at hF
  refine lv_iload_n hx hb dJ8_signum_0 rfl (lv_at hl 0 rfl) ?_
  refine lv_bipush (v := 31) hx hb dJ8_signum_1 (by decide) ?_
  refine lv_ishr hx hb dJ8_signum_3 ?_
  refine lv_iload_n hx hb dJ8_signum_4 rfl (lv_at hl 0 rfl) ?_
  refine lv_ineg hx hb dJ8_signum_5 ?_
  refine lv_bipush (v := 31) hx hb dJ8_signum_6 (by decide) ?_
  refine lv_iushr hx hb dJ8_signum_8 rfl ?_
  refine lv_ior hx hb dJ8_signum_9 ?_
  cases hF
  exact m_iret X hp dJ8_signum_10
end
section
variable {l : Launch} {D : va_G} {n0 : Nat} {P : mP} {S : mSh} {M : mMm} {n : Nat} {p : Program} {e : Env} {s : State} {m : MethodId} {args : Array Value} {below : List Frame} {meth : Method} {c : Code}
abbrev Rm_X0_isIn : Room := { frames := 0, cells := 0, slots := 0, locals := 0 }
def f_X0_isIn (x0 : Int32) (x1 : Int32) (x2 : Int32) : Option Int32 := (if x0 < x1 then some (0 : Int32) else (if x2 < x0 then some (0 : Int32) else some (1 : Int32)))
theorem w_X0_isIn {x0 : Int32} {x1 : Int32} {x2 : Int32} {r : Int32} (hF : f_X0_isIn x0 x1 x2 = some r) : mCt l D n0 P yX0_isIn cX0_isIn 3 (some .boolean) 0 0 0 0 [.int x0, .int x1, .int x2] S M n (some (.int r)) S M n := by
  refine m_ofW (by decide) (Nat.le_of_ble_eq_true rfl) (fun p e s m below meth c X hnm hp ls hl => ?_)
  have hx := X.1.1
  have hb := X.1.2.1
  have hown := X.1.2.2.2.1
  have hts := X.1.2.2.2.2
  have hl : lv_has ls 3 [(0, .int x0), (1, .int x1), (2, .int x2)] := hl
  unfold f_X0_isIn at hF
  refine lv_iload_n hx hb dX0_isIn_0 rfl (lv_at hl 0 rfl) ?_
  refine lv_iload_n hx hb dX0_isIn_1 rfl (lv_at hl 1 rfl) ?_
  refine lv_icmp_lt (tgt := 14) hx hb dX0_isIn_2 (by decide) (fun c1 => ?_) (fun c1 => ?_)
  · have hF := if_p c1 hF
    refine lv_iconst (v := 0) hx hb dX0_isIn_14 (by decide) ?_
    cases hF
    exact m_zret X hp rfl dX0_isIn_15
  · have hF := if_n c1 hF
    refine lv_iload_n hx hb dX0_isIn_5 rfl (lv_at hl 0 rfl) ?_
    refine lv_iload_n hx hb dX0_isIn_6 rfl (lv_at hl 2 rfl) ?_
    refine lv_icmp_gt (tgt := 14) hx hb dX0_isIn_7 (by decide) (fun c2 => ?_) (fun c2 => ?_)
    · have hF := if_p c2 hF
      refine lv_iconst (v := 0) hx hb dX0_isIn_14 (by decide) ?_
      cases hF
      exact m_zret X hp rfl dX0_isIn_15
    · have hF := if_n c2 hF
      refine lv_iconst (v := 1) hx hb dX0_isIn_10 (by decide) ?_
      refine lv_goto (tgt := 15) hx hb dX0_isIn_11 (by decide) ?_
      cases hF
      exact m_zret X hp rfl dX0_isIn_15
end
section
variable {l : Launch} {D : va_G} {n0 : Nat} {P : mP} {S : mSh} {M : mMm} {n : Nat} {p : Program} {e : Env} {s : State} {m : MethodId} {args : Array Value} {below : List Frame} {meth : Method} {c : Code}
abbrev Rm_X0_right : Room := { frames := 0, cells := 0, slots := 0, locals := 0 }
def f_X0_right (x0 : Int32) : Option Int32 := (if x0 = (1 : Int32) then some (1 : Int32) else (if x0 = (3 : Int32) then some (-1 : Int32) else some (0 : Int32)))
theorem w_X0_right {x0 : Int32} {r : Int32} (hF : f_X0_right x0 = some r) : mCt l D n0 P yX0_right cX0_right 1 (some .int) 0 0 0 0 [.int x0] S M n (some (.int r)) S M n := by
  refine m_ofW (by decide) (Nat.le_of_ble_eq_true rfl) (fun p e s m below meth c X hnm hp ls hl => ?_)
  have hx := X.1.1
  have hb := X.1.2.1
  have hown := X.1.2.2.2.1
  have hts := X.1.2.2.2.2
  have hl : lv_has ls 1 [(0, .int x0)] := hl
  unfold f_X0_right at hF
  refine lv_iload_n hx hb dX0_right_0 rfl (lv_at hl 0 rfl) ?_
  refine lv_iconst (v := 1) hx hb dX0_right_1 (by decide) ?_
  refine lv_icmp_ne (tgt := 9) hx hb dX0_right_2 (by decide) (fun c1 => ?_) (fun c1 => ?_)
  · have hF := if_n c1 hF
    refine lv_iload_n hx hb dX0_right_9 rfl (lv_at hl 0 rfl) ?_
    refine lv_iconst (v := 3) hx hb dX0_right_10 (by decide) ?_
    refine lv_icmp_ne (tgt := 18) hx hb dX0_right_11 (by decide) (fun c2 => ?_) (fun c2 => ?_)
    · have hF := if_n c2 hF
      refine lv_iconst (v := 0) hx hb dX0_right_18 (by decide) ?_
      cases hF
      exact m_iret X hp dX0_right_19
    · have hF := if_p c2 hF
      refine lv_iconst (v := -1) hx hb dX0_right_14 (by decide) ?_
      refine lv_goto (tgt := 19) hx hb dX0_right_15 (by decide) ?_
      cases hF
      exact m_iret X hp dX0_right_19
  · have hF := if_p c1 hF
    refine lv_iconst (v := 1) hx hb dX0_right_5 (by decide) ?_
    refine lv_goto (tgt := 19) hx hb dX0_right_6 (by decide) ?_
    cases hF
    exact m_iret X hp dX0_right_19
end
section
variable {l : Launch} {D : va_G} {n0 : Nat} {P : mP} {S : mSh} {M : mMm} {n : Nat} {p : Program} {e : Env} {s : State} {m : MethodId} {args : Array Value} {below : List Frame} {meth : Method} {c : Code}
abbrev Rm_X0_up : Room := { frames := 0, cells := 0, slots := 0, locals := 0 }
def f_X0_up (x0 : Int32) : Option Int32 := (if x0 = 0 then some (1 : Int32) else (if x0 = (2 : Int32) then some (-1 : Int32) else some (0 : Int32)))
theorem w_X0_up {x0 : Int32} {r : Int32} (hF : f_X0_up x0 = some r) : mCt l D n0 P yX0_up cX0_up 1 (some .int) 0 0 0 0 [.int x0] S M n (some (.int r)) S M n := by
  refine m_ofW (by decide) (Nat.le_of_ble_eq_true rfl) (fun p e s m below meth c X hnm hp ls hl => ?_)
  have hx := X.1.1
  have hb := X.1.2.1
  have hown := X.1.2.2.2.1
  have hts := X.1.2.2.2.2
  have hl : lv_has ls 1 [(0, .int x0)] := hl
  unfold f_X0_up at hF
  refine lv_iload_n hx hb dX0_up_0 rfl (lv_at hl 0 rfl) ?_
  refine lv_if_ne (tgt := 8) hx hb dX0_up_1 (by decide) (fun c1 => ?_) (fun c1 => ?_)
  · have hF := if_n c1 hF
    refine lv_iload_n hx hb dX0_up_8 rfl (lv_at hl 0 rfl) ?_
    refine lv_iconst (v := 2) hx hb dX0_up_9 (by decide) ?_
    refine lv_icmp_ne (tgt := 17) hx hb dX0_up_10 (by decide) (fun c2 => ?_) (fun c2 => ?_)
    · have hF := if_n c2 hF
      refine lv_iconst (v := 0) hx hb dX0_up_17 (by decide) ?_
      cases hF
      exact m_iret X hp dX0_up_18
    · have hF := if_p c2 hF
      refine lv_iconst (v := -1) hx hb dX0_up_13 (by decide) ?_
      refine lv_goto (tgt := 18) hx hb dX0_up_14 (by decide) ?_
      cases hF
      exact m_iret X hp dX0_up_18
  · have hF := if_p c1 hF
    refine lv_iconst (v := 1) hx hb dX0_up_4 (by decide) ?_
    refine lv_goto (tgt := 18) hx hb dX0_up_5 (by decide) ?_
    cases hF
    exact m_iret X hp dX0_up_18
end
section
variable {l : Launch} {D : va_G} {n0 : Nat} {P : mP} {S : mSh} {M : mMm} {n : Nat} {p : Program} {e : Env} {s : State} {m : MethodId} {args : Array Value} {below : List Frame} {meth : Method} {c : Code}
abbrev Rm_X0_ant : Room := { frames := 1, cells := 0, slots := 0, locals := 22 }
def fb_X0_ant_149 (S : mSh) (k65 : mMm → Nat → Int32 → Int32 → Int32 → Int32 → Int32 → Int32 → Int32 → Int32 → Option (Int32 × mMm)) (M : mMm) (x0 : Nat) (x1 : Int32) (x2 : Int32) (x3 : Int32) (x4 : Int32) (x5 : Int32) (x6 : Int32) (x7 : Int32) (x8 : Int32) (y0 : Int32) (y1 : Int32) (y2 : Nat) : Option (Int32 × mMm) := ob (wA S M y2 102 y1 (.int (y0 &&& 1))) fun M59 => ob (f_J4_max x7 x6) fun v62 => ob (f_X0_right x5) fun v64 => nm ((x3 + v64)) fun v65 => ob (f_X0_up x5) fun v68 => nm ((x4 + v68)) fun v69 => nm (x8 + (1 : Int32)) fun v71 => (k65 M59 x0 x1 x2 v65 v69 x5 x6 v62 v71)
theorem b_X0_ant_149 {r : Int32} {M' : mMm} (X : mCx D n0 P p m c cX0_ant 10 s args yX0_ant.cls meth (some .int)) (k65 : mMm → Nat → Int32 → Int32 → Int32 → Int32 → Int32 → Int32 → Int32 → Int32 → Option (Int32 × mMm)) (hk65 : ∀ (M : mMm) (x0 : Nat) (x1 : Int32) (x2 : Int32) (x3 : Int32) (x4 : Int32) (x5 : Int32) (x6 : Int32) (x7 : Int32) (x8 : Int32) (H : Heap) (locs : List Loc) (ls : Array Slot), mHp D n0 S M n s H locs → lv_has ls 10 [(0, .ref x0), (1, .int x1), (2, .int x2), (3, .int x3), (4, .int x4), (5, .int x5), (6, .int x6), (7, .int x7), (8, .int x8)] → k65 M x0 x1 x2 x3 x4 x5 x6 x7 x8 = some (r, M') → W p l e Rm_X0_ant s m args below meth c H locs 0 0 (MQ below (mQ D n0 (some (.int r)) S M' n) args s 0 0 (mA n0)) (F0 m 65 ls [])) : ∀ (M : mMm) (x0 : Nat) (x1 : Int32) (x2 : Int32) (x3 : Int32) (x4 : Int32) (x5 : Int32) (x6 : Int32) (x7 : Int32) (x8 : Int32) (y0 : Int32) (y1 : Int32) (y2 : Nat) (H : Heap) (locs : List Loc) (ls : Array Slot), mHp D n0 S M n s H locs → lv_has ls 10 [(0, .ref x0), (1, .int x1), (2, .int x2), (3, .int x3), (4, .int x4), (5, .int x5), (6, .int x6), (7, .int x7), (8, .int x8)] → fb_X0_ant_149 S k65 M x0 x1 x2 x3 x4 x5 x6 x7 x8 y0 y1 y2 = some (r, M') → W p l e Rm_X0_ant s m args below meth c H locs 0 0 (MQ below (mQ D n0 (some (.int r)) S M' n) args s 0 0 (mA n0)) (F0 m 149 ls [.int y0, .int y1, .ref y2]) := by
  have hx := X.1.1
  have hb := X.1.2.1
  have hown := X.1.2.2.2.1
  have hts := X.1.2.2.2.2
  intro M x0 x1 x2 x3 x4 x5 x6 x7 x8 y0 y1 y2 H locs ls hp hl hF
  unfold fb_X0_ant_149 at hF
  obtain ⟨M59, e60, hF⟩ := ob_s hF
  refine m_zaW X hp e60 dX0_ant_149 (fun H locs hp => ?_)
  refine lv_iload hx hb dX0_ant_150 (lv_at hl 7 rfl) ?_
  refine lv_iload hx hb dX0_ant_152 (lv_at hl 6 rfl) ?_
  obtain ⟨v62, e61, hF⟩ := ob_s hF
  refine m_callS (As := [.int x7, .int x6]) (rest := []) X hp (w_J4_max e61) q1170 q333 q141 q334 2 rfl ds_J4_max ⟨Nat.le_of_ble_eq_true rfl, Nat.le_of_ble_eq_true rfl⟩ hl.1 rfl (Nat.le_of_ble_eq_true rfl) dX0_ant_154 ⟨Nat.le_refl 0, Nat.le_refl 0⟩ (fun H locs hp => ?_)
  refine lv_istore (lv' := [(7, .int v62), (0, .ref x0), (1, .int x1), (2, .int x2), (3, .int x3), (4, .int x4), (5, .int x5), (6, .int x6), (8, .int x8)]) hx hb dX0_ant_157 hl (by decide) rfl (fun ls hl => ?_)
  refine lv_iload_n hx hb dX0_ant_159 rfl (lv_at hl 4 rfl) ?_
  refine lv_iload hx hb dX0_ant_160 (lv_at hl 6 rfl) ?_
  obtain ⟨v64, e63, hF⟩ := ob_s hF
  refine m_callS (As := [.int x5]) (rest := [.int x3]) X hp (w_X0_right e63) q1105 q1106 q132 q1107 1 rfl ds_X0_right ⟨Nat.le_of_ble_eq_true rfl, Nat.le_of_ble_eq_true rfl⟩ hl.1 rfl (Nat.le_of_ble_eq_true rfl) dX0_ant_162 ⟨Nat.le_refl 0, Nat.le_refl 0⟩ (fun H locs hp => ?_)
  refine lv_iadd hx hb dX0_ant_165 ?_
  refine lv_topi (fun v65 ev66 => ?_)
  have hF := nm_s hF ev66
  refine lv_istore_n (lv' := [(3, .int v65), (7, .int v62), (0, .ref x0), (1, .int x1), (2, .int x2), (4, .int x4), (5, .int x5), (6, .int x6), (8, .int x8)]) hx hb dX0_ant_166 rfl hl (by decide) rfl (fun ls hl => ?_)
  refine lv_iload hx hb dX0_ant_167 (lv_at hl 5 rfl) ?_
  refine lv_iload hx hb dX0_ant_169 (lv_at hl 6 rfl) ?_
  obtain ⟨v68, e67, hF⟩ := ob_s hF
  refine m_callS (As := [.int x5]) (rest := [.int x4]) X hp (w_X0_up e67) q1108 q1109 q132 q1110 1 rfl ds_X0_up ⟨Nat.le_of_ble_eq_true rfl, Nat.le_of_ble_eq_true rfl⟩ hl.1 rfl (Nat.le_of_ble_eq_true rfl) dX0_ant_171 ⟨Nat.le_refl 0, Nat.le_refl 0⟩ (fun H locs hp => ?_)
  refine lv_iadd hx hb dX0_ant_174 ?_
  refine lv_topi (fun v69 ev70 => ?_)
  have hF := nm_s hF ev70
  refine lv_istore (lv' := [(4, .int v69), (3, .int v65), (7, .int v62), (0, .ref x0), (1, .int x1), (2, .int x2), (5, .int x5), (6, .int x6), (8, .int x8)]) hx hb dX0_ant_175 hl (by decide) rfl (fun ls hl => ?_)
  obtain ⟨v71, ev72⟩ : ∃ y : Int32, y = x8 + (1 : Int32) := ⟨_, rfl⟩
  have hF := nm_s hF ev72
  refine lv_iinc (v := v71) (lv' := [(8, .int v71), (4, .int v69), (3, .int v65), (7, .int v62), (0, .ref x0), (1, .int x1), (2, .int x2), (5, .int x5), (6, .int x6)]) hx hb dX0_ant_177 hl (k := 8) rfl (by rw [ev72]; rfl) (by decide) rfl (fun ls hl => ?_)
  refine lv_goto (tgt := 65) hx hb dX0_ant_180 (by decide) ?_
  exact hk65 _ _ _ _ _ _ _ _ _ _ _ _ _ hp (lv_sub hl [4, 5, 6, 2, 1, 7, 8, 3, 0] rfl) hF
def fb_X0_ant_125 (S : mSh) (k65 : mMm → Nat → Int32 → Int32 → Int32 → Int32 → Int32 → Int32 → Int32 → Int32 → Option (Int32 × mMm)) (M : mMm) (x0 : Nat) (x1 : Int32) (x2 : Int32) (x3 : Int32) (x4 : Int32) (x5 : Int32) (x7 : Int32) (x8 : Int32) (x9 : Int32) (y0 : Int32) (y1 : Int32) : Option (Int32 × mMm) := nm ((y1 + y0)) fun v50 => ob (rR S M x0 1 19) fun v52 => ob (rR S M x0 1 19) fun v54 => ob (aI S M v54 102 x9) fun v56 => (if v56 = 0 then (fb_X0_ant_149 S k65 M x0 x1 x2 x3 x4 x5 v50 x7 x8 (1 : Int32) x9 v52) else (fb_X0_ant_149 S k65 M x0 x1 x2 x3 x4 x5 v50 x7 x8 (0 : Int32) x9 v52))
theorem b_X0_ant_125 {r : Int32} {M' : mMm} (X : mCx D n0 P p m c cX0_ant 10 s args yX0_ant.cls meth (some .int)) (k65 : mMm → Nat → Int32 → Int32 → Int32 → Int32 → Int32 → Int32 → Int32 → Int32 → Option (Int32 × mMm)) (hk65 : ∀ (M : mMm) (x0 : Nat) (x1 : Int32) (x2 : Int32) (x3 : Int32) (x4 : Int32) (x5 : Int32) (x6 : Int32) (x7 : Int32) (x8 : Int32) (H : Heap) (locs : List Loc) (ls : Array Slot), mHp D n0 S M n s H locs → lv_has ls 10 [(0, .ref x0), (1, .int x1), (2, .int x2), (3, .int x3), (4, .int x4), (5, .int x5), (6, .int x6), (7, .int x7), (8, .int x8)] → k65 M x0 x1 x2 x3 x4 x5 x6 x7 x8 = some (r, M') → W p l e Rm_X0_ant s m args below meth c H locs 0 0 (MQ below (mQ D n0 (some (.int r)) S M' n) args s 0 0 (mA n0)) (F0 m 65 ls [])) : ∀ (M : mMm) (x0 : Nat) (x1 : Int32) (x2 : Int32) (x3 : Int32) (x4 : Int32) (x5 : Int32) (x7 : Int32) (x8 : Int32) (x9 : Int32) (y0 : Int32) (y1 : Int32) (H : Heap) (locs : List Loc) (ls : Array Slot), mHp D n0 S M n s H locs → lv_has ls 10 [(0, .ref x0), (1, .int x1), (2, .int x2), (3, .int x3), (4, .int x4), (5, .int x5), (7, .int x7), (8, .int x8), (9, .int x9)] → fb_X0_ant_125 S k65 M x0 x1 x2 x3 x4 x5 x7 x8 x9 y0 y1 = some (r, M') → W p l e Rm_X0_ant s m args below meth c H locs 0 0 (MQ below (mQ D n0 (some (.int r)) S M' n) args s 0 0 (mA n0)) (F0 m 125 ls [.int y0, .int y1]) := by
  have hx := X.1.1
  have hb := X.1.2.1
  have hown := X.1.2.2.2.1
  have hts := X.1.2.2.2.2
  intro M x0 x1 x2 x3 x4 x5 x7 x8 x9 y0 y1 H locs ls hp hl hF
  unfold fb_X0_ant_125 at hF
  refine lv_iadd hx hb dX0_ant_125 ?_
  refine lv_topi (fun v50 ev51 => ?_)
  have hF := nm_s hF ev51
  refine lv_istore (lv' := [(6, .int v50), (0, .ref x0), (1, .int x1), (2, .int x2), (3, .int x3), (4, .int x4), (5, .int x5), (7, .int x7), (8, .int x8), (9, .int x9)]) hx hb dX0_ant_126 hl (by decide) rfl (fun ls hl => ?_)
  refine lv_aload_n hx hb dX0_ant_128 rfl (lv_at hl 1 rfl) ?_
  obtain ⟨v52, e53, hF⟩ := ob_s hF
  refine m_getR X hp e53 kX0 (Nat.le_of_ble_eq_true rfl) q479 dX0_ant_129 ?_
  refine lv_iload hx hb dX0_ant_132 (lv_at hl 9 rfl) ?_
  refine lv_aload_n hx hb dX0_ant_134 rfl (lv_at hl 1 rfl) ?_
  obtain ⟨v54, e55, hF⟩ := ob_s hF
  refine m_getR X hp e55 kX0 (Nat.le_of_ble_eq_true rfl) q479 dX0_ant_135 ?_
  refine lv_iload hx hb dX0_ant_138 (lv_at hl 9 rfl) ?_
  obtain ⟨v56, e57, hF⟩ := ob_s hF
  refine m_zaI X hp e57 dX0_ant_140 ?_
  refine lv_if_ne (tgt := 148) hx hb dX0_ant_141 (by decide) (fun c58 => ?_) (fun c58 => ?_)
  · have hF := if_n c58 hF
    refine lv_iconst (v := 0) hx hb dX0_ant_148 (by decide) ?_
    exact b_X0_ant_149 X _ hk65 _ _ _ _ _ _ _ _ _ _ _ _ _ _ _ _ hp (lv_sub hl [1, 2, 3, 4, 5, 6, 0, 7, 8] rfl) hF
  · have hF := if_p c58 hF
    refine lv_iconst (v := 1) hx hb dX0_ant_144 (by decide) ?_
    refine lv_goto (tgt := 149) hx hb dX0_ant_145 (by decide) ?_
    exact b_X0_ant_149 X _ hk65 _ _ _ _ _ _ _ _ _ _ _ _ _ _ _ _ hp (lv_sub hl [1, 2, 3, 4, 5, 6, 0, 7, 8] rfl) hF
def fb_X0_ant_103 (S : mSh) (k65 : mMm → Nat → Int32 → Int32 → Int32 → Int32 → Int32 → Int32 → Int32 → Int32 → Option (Int32 × mMm)) (M : mMm) (x0 : Nat) (x1 : Int32) (x2 : Int32) (x3 : Int32) (x4 : Int32) (x6 : Int32) (x7 : Int32) (x8 : Int32) (x9 : Int32) (y0 : Int32) (y1 : Int32) : Option (Int32 × mMm) := nm (((y1 + y0) - (y1 + y0) / (4 : Int32) * (4 : Int32))) fun v43 => ob (rR S M x0 1 19) fun v45 => ob (aI S M v45 102 x9) fun v47 => (if v47 = 0 then (fb_X0_ant_125 S k65 M x0 x1 x2 x3 x4 v43 x7 x8 x9 (1 : Int32) x6) else (fb_X0_ant_125 S k65 M x0 x1 x2 x3 x4 v43 x7 x8 x9 (-1 : Int32) x6))
theorem b_X0_ant_103 {r : Int32} {M' : mMm} (X : mCx D n0 P p m c cX0_ant 10 s args yX0_ant.cls meth (some .int)) (k65 : mMm → Nat → Int32 → Int32 → Int32 → Int32 → Int32 → Int32 → Int32 → Int32 → Option (Int32 × mMm)) (hk65 : ∀ (M : mMm) (x0 : Nat) (x1 : Int32) (x2 : Int32) (x3 : Int32) (x4 : Int32) (x5 : Int32) (x6 : Int32) (x7 : Int32) (x8 : Int32) (H : Heap) (locs : List Loc) (ls : Array Slot), mHp D n0 S M n s H locs → lv_has ls 10 [(0, .ref x0), (1, .int x1), (2, .int x2), (3, .int x3), (4, .int x4), (5, .int x5), (6, .int x6), (7, .int x7), (8, .int x8)] → k65 M x0 x1 x2 x3 x4 x5 x6 x7 x8 = some (r, M') → W p l e Rm_X0_ant s m args below meth c H locs 0 0 (MQ below (mQ D n0 (some (.int r)) S M' n) args s 0 0 (mA n0)) (F0 m 65 ls [])) : ∀ (M : mMm) (x0 : Nat) (x1 : Int32) (x2 : Int32) (x3 : Int32) (x4 : Int32) (x6 : Int32) (x7 : Int32) (x8 : Int32) (x9 : Int32) (y0 : Int32) (y1 : Int32) (H : Heap) (locs : List Loc) (ls : Array Slot), mHp D n0 S M n s H locs → lv_has ls 10 [(0, .ref x0), (1, .int x1), (2, .int x2), (3, .int x3), (4, .int x4), (6, .int x6), (7, .int x7), (8, .int x8), (9, .int x9)] → fb_X0_ant_103 S k65 M x0 x1 x2 x3 x4 x6 x7 x8 x9 y0 y1 = some (r, M') → W p l e Rm_X0_ant s m args below meth c H locs 0 0 (MQ below (mQ D n0 (some (.int r)) S M' n) args s 0 0 (mA n0)) (F0 m 103 ls [.int y0, .int y1]) := by
  have hx := X.1.1
  have hb := X.1.2.1
  have hown := X.1.2.2.2.1
  have hts := X.1.2.2.2.2
  intro M x0 x1 x2 x3 x4 x6 x7 x8 x9 y0 y1 H locs ls hp hl hF
  unfold fb_X0_ant_103 at hF
  refine lv_iadd hx hb dX0_ant_103 ?_
  refine lv_iconst (v := 4) hx hb dX0_ant_104 (by decide) ?_
  refine lv_irem hx hb dX0_ant_105 (by decide) ?_
  refine lv_topi (fun v43 ev44 => ?_)
  have hF := nm_s hF ev44
  refine lv_istore (lv' := [(5, .int v43), (0, .ref x0), (1, .int x1), (2, .int x2), (3, .int x3), (4, .int x4), (6, .int x6), (7, .int x7), (8, .int x8), (9, .int x9)]) hx hb dX0_ant_106 hl (by decide) rfl (fun ls hl => ?_)
  refine lv_iload hx hb dX0_ant_108 (lv_at hl 6 rfl) ?_
  refine lv_aload_n hx hb dX0_ant_110 rfl (lv_at hl 1 rfl) ?_
  obtain ⟨v45, e46, hF⟩ := ob_s hF
  refine m_getR X hp e46 kX0 (Nat.le_of_ble_eq_true rfl) q479 dX0_ant_111 ?_
  refine lv_iload hx hb dX0_ant_114 (lv_at hl 9 rfl) ?_
  obtain ⟨v47, e48, hF⟩ := ob_s hF
  refine m_zaI X hp e48 dX0_ant_116 ?_
  refine lv_if_eq (tgt := 124) hx hb dX0_ant_117 (by decide) (fun c49 => ?_) (fun c49 => ?_)
  · have hF := if_p c49 hF
    refine lv_iconst (v := 1) hx hb dX0_ant_124 (by decide) ?_
    exact b_X0_ant_125 X _ hk65 _ _ _ _ _ _ _ _ _ _ _ _ _ _ _ hp (lv_sub hl [1, 2, 3, 4, 5, 0, 7, 8, 9] rfl) hF
  · have hF := if_n c49 hF
    refine lv_iconst (v := -1) hx hb dX0_ant_120 (by decide) ?_
    refine lv_goto (tgt := 125) hx hb dX0_ant_121 (by decide) ?_
    exact b_X0_ant_125 X _ hk65 _ _ _ _ _ _ _ _ _ _ _ _ _ _ _ hp (lv_sub hl [1, 2, 3, 4, 5, 0, 7, 8, 9] rfl) hF
def fb_X0_ant_65 (S : mSh) : Nat → mMm → Nat → Int32 → Int32 → Int32 → Int32 → Int32 → Int32 → Int32 → Int32 → Option (Int32 × mMm)
  | 0, _, _, _, _, _, _, _, _, _, _ => none
  | t + 1, M, x0, x1, x2, x3, x4, x5, x6, x7, x8 => (if x1 ≤ x8 then (if x2 = 0 then some (x6, M) else (if x2 = (1 : Int32) then some (x3, M) else (if x2 = (2 : Int32) then some (x4, M) else some (x7, M)))) else nm (((((121 : Int32) * (x4 + (60 : Int32))) + x3) + (60 : Int32))) fun v36 => ob (rR S M x0 1 19) fun v38 => ob (aI S M v38 102 v36) fun v40 => (if v40 = 0 then (fb_X0_ant_103 S (fb_X0_ant_65 S t) M x0 x1 x2 x3 x4 x6 x7 x8 v36 (1 : Int32) x5) else (fb_X0_ant_103 S (fb_X0_ant_65 S t) M x0 x1 x2 x3 x4 x6 x7 x8 v36 (3 : Int32) x5)))
theorem b_X0_ant_65 {r : Int32} {M' : mMm} (X : mCx D n0 P p m c cX0_ant 10 s args yX0_ant.cls meth (some .int)) : ∀ t : Nat, ∀ (M : mMm) (x0 : Nat) (x1 : Int32) (x2 : Int32) (x3 : Int32) (x4 : Int32) (x5 : Int32) (x6 : Int32) (x7 : Int32) (x8 : Int32) (H : Heap) (locs : List Loc) (ls : Array Slot), mHp D n0 S M n s H locs → lv_has ls 10 [(0, .ref x0), (1, .int x1), (2, .int x2), (3, .int x3), (4, .int x4), (5, .int x5), (6, .int x6), (7, .int x7), (8, .int x8)] → fb_X0_ant_65 S t M x0 x1 x2 x3 x4 x5 x6 x7 x8 = some (r, M') → W p l e Rm_X0_ant s m args below meth c H locs 0 0 (MQ below (mQ D n0 (some (.int r)) S M' n) args s 0 0 (mA n0)) (F0 m 65 ls []) := by
  have hx := X.1.1
  have hb := X.1.2.1
  have hown := X.1.2.2.2.1
  have hts := X.1.2.2.2.2
  intro t
  induction t with
  | zero =>
    intro M x0 x1 x2 x3 x4 x5 x6 x7 x8 H locs ls hp hl hF
    have hF : none = some (r, M') := hF
    cases hF
  | succ t ih =>
    intro M x0 x1 x2 x3 x4 x5 x6 x7 x8 H locs ls hp hl hF
    rw [fb_X0_ant_65] at hF
    refine lv_iload hx hb dX0_ant_65 (lv_at hl 8 rfl) ?_
    refine lv_iload_n hx hb dX0_ant_67 rfl (lv_at hl 1 rfl) ?_
    refine lv_icmp_ge (tgt := 183) hx hb dX0_ant_68 (by decide) (fun c32 => ?_) (fun c32 => ?_)
    · have hF := if_p c32 hF
      refine lv_iload_n hx hb dX0_ant_183 rfl (lv_at hl 2 rfl) ?_
      refine lv_if_ne (tgt := 192) hx hb dX0_ant_184 (by decide) (fun c33 => ?_) (fun c33 => ?_)
      · have hF := if_n c33 hF
        refine lv_iload_n hx hb dX0_ant_192 rfl (lv_at hl 2 rfl) ?_
        refine lv_iconst (v := 1) hx hb dX0_ant_193 (by decide) ?_
        refine lv_icmp_ne (tgt := 201) hx hb dX0_ant_194 (by decide) (fun c34 => ?_) (fun c34 => ?_)
        · have hF := if_n c34 hF
          refine lv_iload_n hx hb dX0_ant_201 rfl (lv_at hl 2 rfl) ?_
          refine lv_iconst (v := 2) hx hb dX0_ant_202 (by decide) ?_
          refine lv_icmp_ne (tgt := 211) hx hb dX0_ant_203 (by decide) (fun c35 => ?_) (fun c35 => ?_)
          · have hF := if_n c35 hF
            refine lv_iload hx hb dX0_ant_211 (lv_at hl 7 rfl) ?_
            cases hF
            exact m_iret X hp dX0_ant_213
          · have hF := if_p c35 hF
            refine lv_iload hx hb dX0_ant_206 (lv_at hl 4 rfl) ?_
            refine lv_goto (tgt := 213) hx hb dX0_ant_208 (by decide) ?_
            cases hF
            exact m_iret X hp dX0_ant_213
        · have hF := if_p c34 hF
          refine lv_iload_n hx hb dX0_ant_197 rfl (lv_at hl 3 rfl) ?_
          refine lv_goto (tgt := 213) hx hb dX0_ant_198 (by decide) ?_
          cases hF
          exact m_iret X hp dX0_ant_213
      · have hF := if_p c33 hF
        refine lv_iload hx hb dX0_ant_187 (lv_at hl 6 rfl) ?_
        refine lv_goto (tgt := 213) hx hb dX0_ant_189 (by decide) ?_
        cases hF
        exact m_iret X hp dX0_ant_213
    · have hF := if_n c32 hF
      refine lv_bipush (v := 121) hx hb dX0_ant_71 (by decide) ?_
      refine lv_iload hx hb dX0_ant_73 (lv_at hl 4 rfl) ?_
      refine lv_bipush (v := 60) hx hb dX0_ant_75 (by decide) ?_
      refine lv_iadd hx hb dX0_ant_77 ?_
      refine lv_imul hx hb dX0_ant_78 ?_
      refine lv_iload_n hx hb dX0_ant_79 rfl (lv_at hl 3 rfl) ?_
      refine lv_iadd hx hb dX0_ant_80 ?_
      refine lv_bipush (v := 60) hx hb dX0_ant_81 (by decide) ?_
      refine lv_iadd hx hb dX0_ant_83 ?_
      refine lv_topi (fun v36 ev37 => ?_)
      have hF := nm_s hF ev37
      refine lv_istore (lv' := [(9, .int v36), (0, .ref x0), (1, .int x1), (2, .int x2), (3, .int x3), (4, .int x4), (5, .int x5), (6, .int x6), (7, .int x7), (8, .int x8)]) hx hb dX0_ant_84 hl (by decide) rfl (fun ls hl => ?_)
      refine lv_iload hx hb dX0_ant_86 (lv_at hl 6 rfl) ?_
      refine lv_aload_n hx hb dX0_ant_88 rfl (lv_at hl 1 rfl) ?_
      obtain ⟨v38, e39, hF⟩ := ob_s hF
      refine m_getR X hp e39 kX0 (Nat.le_of_ble_eq_true rfl) q479 dX0_ant_89 ?_
      refine lv_iload hx hb dX0_ant_92 (lv_at hl 0 rfl) ?_
      obtain ⟨v40, e41, hF⟩ := ob_s hF
      refine m_zaI X hp e41 dX0_ant_94 ?_
      refine lv_if_eq (tgt := 102) hx hb dX0_ant_95 (by decide) (fun c42 => ?_) (fun c42 => ?_)
      · have hF := if_p c42 hF
        refine lv_iconst (v := 1) hx hb dX0_ant_102 (by decide) ?_
        exact b_X0_ant_103 X _ ih _ _ _ _ _ _ _ _ _ _ _ _ _ _ _ hp (lv_sub hl [1, 2, 3, 4, 5, 7, 8, 9, 0] rfl) hF
      · have hF := if_n c42 hF
        refine lv_iconst (v := 3) hx hb dX0_ant_98 (by decide) ?_
        refine lv_goto (tgt := 103) hx hb dX0_ant_99 (by decide) ?_
        exact b_X0_ant_103 X _ ih _ _ _ _ _ _ _ _ _ _ _ _ _ _ _ hp (lv_sub hl [1, 2, 3, 4, 5, 7, 8, 9, 0] rfl) hF
def fb_X0_ant_26 (S : mSh) : Nat → mMm → Nat → Int32 → Int32 → Int32 → Option (Int32 × mMm)
  | 0, _, _, _, _, _ => none
  | t + 1, M, x0, x1, x2, x3 => ob (rR S M x0 1 19) fun v9 => ob (aN S v9 102) fun v11 => (if v11 ≤ x3 then nm ((0 : Int32)) fun v14 => nm ((0 : Int32)) fun v16 => nm ((0 : Int32)) fun v18 => nm ((0 : Int32)) fun v20 => nm ((0 : Int32)) fun v22 => nm ((0 : Int32)) fun v24 => (fb_X0_ant_65 S FU M x0 x1 x2 v14 v16 v18 v20 v22 v24) else ob (rR S M x0 1 19) fun v26 => ob (wA S M v26 102 x3 (.int ((0 : Int32) &&& 1))) fun M28 => nm (x3 + (1 : Int32)) fun v30 => (fb_X0_ant_26 S t M28 x0 x1 x2 v30))
theorem b_X0_ant_26 {r : Int32} {M' : mMm} (X : mCx D n0 P p m c cX0_ant 10 s args yX0_ant.cls meth (some .int)) : ∀ t : Nat, ∀ (M : mMm) (x0 : Nat) (x1 : Int32) (x2 : Int32) (x3 : Int32) (H : Heap) (locs : List Loc) (ls : Array Slot), mHp D n0 S M n s H locs → lv_has ls 10 [(0, .ref x0), (1, .int x1), (2, .int x2), (3, .int x3)] → fb_X0_ant_26 S t M x0 x1 x2 x3 = some (r, M') → W p l e Rm_X0_ant s m args below meth c H locs 0 0 (MQ below (mQ D n0 (some (.int r)) S M' n) args s 0 0 (mA n0)) (F0 m 26 ls []) := by
  have hx := X.1.1
  have hb := X.1.2.1
  have hown := X.1.2.2.2.1
  have hts := X.1.2.2.2.2
  intro t
  induction t with
  | zero =>
    intro M x0 x1 x2 x3 H locs ls hp hl hF
    have hF : none = some (r, M') := hF
    cases hF
  | succ t ih =>
    intro M x0 x1 x2 x3 H locs ls hp hl hF
    rw [fb_X0_ant_26] at hF
    refine lv_iload_n hx hb dX0_ant_26 rfl (lv_at hl 3 rfl) ?_
    refine lv_aload_n hx hb dX0_ant_27 rfl (lv_at hl 0 rfl) ?_
    obtain ⟨v9, e10, hF⟩ := ob_s hF
    refine m_getR X hp e10 kX0 (Nat.le_of_ble_eq_true rfl) q479 dX0_ant_28 ?_
    obtain ⟨v11, e12, hF⟩ := ob_s hF
    refine m_aln 102 X hp e12 rfl (by decide) dX0_ant_31 ?_
    refine lv_icmp_ge (tgt := 48) hx hb dX0_ant_32 (by decide) (fun c13 => ?_) (fun c13 => ?_)
    · have hF := if_p c13 hF
      refine lv_iconst (v := 0) hx hb dX0_ant_48 (by decide) ?_
      refine lv_topi (fun v14 ev15 => ?_)
      have hF := nm_s hF ev15
      refine lv_istore_n (lv' := [(3, .int v14), (0, .ref x0), (1, .int x1), (2, .int x2)]) hx hb dX0_ant_49 rfl hl (by decide) rfl (fun ls hl => ?_)
      refine lv_iconst (v := 0) hx hb dX0_ant_50 (by decide) ?_
      refine lv_topi (fun v16 ev17 => ?_)
      have hF := nm_s hF ev17
      refine lv_istore (lv' := [(4, .int v16), (3, .int v14), (0, .ref x0), (1, .int x1), (2, .int x2)]) hx hb dX0_ant_51 hl (by decide) rfl (fun ls hl => ?_)
      refine lv_iconst (v := 0) hx hb dX0_ant_53 (by decide) ?_
      refine lv_topi (fun v18 ev19 => ?_)
      have hF := nm_s hF ev19
      refine lv_istore (lv' := [(5, .int v18), (4, .int v16), (3, .int v14), (0, .ref x0), (1, .int x1), (2, .int x2)]) hx hb dX0_ant_54 hl (by decide) rfl (fun ls hl => ?_)
      refine lv_iconst (v := 0) hx hb dX0_ant_56 (by decide) ?_
      refine lv_topi (fun v20 ev21 => ?_)
      have hF := nm_s hF ev21
      refine lv_istore (lv' := [(6, .int v20), (5, .int v18), (4, .int v16), (3, .int v14), (0, .ref x0), (1, .int x1), (2, .int x2)]) hx hb dX0_ant_57 hl (by decide) rfl (fun ls hl => ?_)
      refine lv_iconst (v := 0) hx hb dX0_ant_59 (by decide) ?_
      refine lv_topi (fun v22 ev23 => ?_)
      have hF := nm_s hF ev23
      refine lv_istore (lv' := [(7, .int v22), (6, .int v20), (5, .int v18), (4, .int v16), (3, .int v14), (0, .ref x0), (1, .int x1), (2, .int x2)]) hx hb dX0_ant_60 hl (by decide) rfl (fun ls hl => ?_)
      refine lv_iconst (v := 0) hx hb dX0_ant_62 (by decide) ?_
      refine lv_topi (fun v24 ev25 => ?_)
      have hF := nm_s hF ev25
      refine lv_istore (lv' := [(8, .int v24), (7, .int v22), (6, .int v20), (5, .int v18), (4, .int v16), (3, .int v14), (0, .ref x0), (1, .int x1), (2, .int x2)]) hx hb dX0_ant_63 hl (by decide) rfl (fun ls hl => ?_)
      exact b_X0_ant_65 X _ _ _ _ _ _ _ _ _ _ _ _ _ _ hp (lv_sub hl [6, 7, 8, 5, 4, 3, 2, 1, 0] rfl) hF
    · have hF := if_n c13 hF
      refine lv_aload_n hx hb dX0_ant_35 rfl (lv_at hl 0 rfl) ?_
      obtain ⟨v26, e27, hF⟩ := ob_s hF
      refine m_getR X hp e27 kX0 (Nat.le_of_ble_eq_true rfl) q479 dX0_ant_36 ?_
      refine lv_iload_n hx hb dX0_ant_39 rfl (lv_at hl 3 rfl) ?_
      refine lv_iconst (v := 0) hx hb dX0_ant_40 (by decide) ?_
      obtain ⟨M28, e29, hF⟩ := ob_s hF
      refine m_zaW X hp e29 dX0_ant_41 (fun H locs hp => ?_)
      obtain ⟨v30, ev31⟩ : ∃ y : Int32, y = x3 + (1 : Int32) := ⟨_, rfl⟩
      have hF := nm_s hF ev31
      refine lv_iinc (v := v30) (lv' := [(3, .int v30), (0, .ref x0), (1, .int x1), (2, .int x2)]) hx hb dX0_ant_42 hl (k := 3) rfl (by rw [ev31]; rfl) (by decide) rfl (fun ls hl => ?_)
      refine lv_goto (tgt := 26) hx hb dX0_ant_45 (by decide) ?_
      exact ih _ _ _ _ _ _ _ _ hp (lv_sub hl [1, 2, 3, 0] rfl) hF
def f_X0_ant (S : mSh) (M : mMm) (x0 : Nat) (x1 : Int32) (x2 : Int32) : Option (Int32 × mMm) := ob (f_X0_isIn x1 (0 : Int32) (2000 : Int32)) fun v2 => (if v2 = 0 then some ((-10000 : Int32), M) else ob (f_X0_isIn x2 (0 : Int32) (3 : Int32)) fun v5 => (if v5 = 0 then some ((-10000 : Int32), M) else nm ((0 : Int32)) fun v7 => (fb_X0_ant_26 S FU M x0 x1 x2 v7)))
theorem w_X0_ant {x0 : Nat} {x1 : Int32} {x2 : Int32} {r : Int32} {M' : mMm} (hF : f_X0_ant S M x0 x1 x2 = some (r, M')) : mCt l D n0 P yX0_ant cX0_ant 10 (some .int) 1 22 0 0 [.ref x0, .int x1, .int x2] S M n (some (.int r)) S M' n := by
  refine m_ofW (by decide) (Nat.le_of_ble_eq_true rfl) (fun p e s m below meth c X hnm hp ls hl => ?_)
  have hx := X.1.1
  have hb := X.1.2.1
  have hown := X.1.2.2.2.1
  have hts := X.1.2.2.2.2
  have hl : lv_has ls 10 [(0, .ref x0), (1, .int x1), (2, .int x2)] := hl
  unfold f_X0_ant at hF
  refine lv_iload_n hx hb dX0_ant_0 rfl (lv_at hl 1 rfl) ?_
  refine lv_iconst (v := 0) hx hb dX0_ant_1 (by decide) ?_
  refine lv_sipush (v := 2000) hx hb dX0_ant_2 (by decide) ?_
  obtain ⟨v2, e1, hF⟩ := ob_s hF
  refine m_callS (As := [.int x1, .int (0 : Int32), .int (2000 : Int32)]) (rest := []) X hp (w_X0_isIn e1) q565 q566 q132 q567 3 rfl ds_X0_isIn ⟨Nat.le_of_ble_eq_true rfl, Nat.le_of_ble_eq_true rfl⟩ hl.1 rfl (Nat.le_of_ble_eq_true rfl) dX0_ant_5 ⟨Nat.le_refl 0, Nat.le_refl 0⟩ (fun H locs hp => ?_)
  refine lv_if_eq (tgt := 20) hx hb dX0_ant_8 (by decide) (fun c3 => ?_) (fun c3 => ?_)
  · have hF := if_p c3 hF
    refine lv_sipush (v := -10000) hx hb dX0_ant_20 (by decide) ?_
    cases hF
    exact m_iret X hp dX0_ant_23
  · have hF := if_n c3 hF
    refine lv_iload_n hx hb dX0_ant_11 rfl (lv_at hl 2 rfl) ?_
    refine lv_iconst (v := 0) hx hb dX0_ant_12 (by decide) ?_
    refine lv_iconst (v := 3) hx hb dX0_ant_13 (by decide) ?_
    obtain ⟨v5, e4, hF⟩ := ob_s hF
    refine m_callS (As := [.int x2, .int (0 : Int32), .int (3 : Int32)]) (rest := []) X hp (w_X0_isIn e4) q565 q566 q132 q567 3 rfl ds_X0_isIn ⟨Nat.le_of_ble_eq_true rfl, Nat.le_of_ble_eq_true rfl⟩ hl.1 rfl (Nat.le_of_ble_eq_true rfl) dX0_ant_14 ⟨Nat.le_refl 0, Nat.le_refl 0⟩ (fun H locs hp => ?_)
    refine lv_if_ne (tgt := 24) hx hb dX0_ant_17 (by decide) (fun c6 => ?_) (fun c6 => ?_)
    · have hF := if_n c6 hF
      refine lv_iconst (v := 0) hx hb dX0_ant_24 (by decide) ?_
      refine lv_topi (fun v7 ev8 => ?_)
      have hF := nm_s hF ev8
      refine lv_istore_n (lv' := [(3, .int v7), (0, .ref x0), (1, .int x1), (2, .int x2)]) hx hb dX0_ant_25 rfl hl (by decide) rfl (fun ls hl => ?_)
      exact b_X0_ant_26 X _ _ _ _ _ _ _ _ _ hp (lv_sub hl [1, 2, 3, 0] rfl) hF
    · have hF := if_p c6 hF
      refine lv_sipush (v := -10000) hx hb dX0_ant_20 (by decide) ?_
      cases hF
      exact m_iret X hp dX0_ant_23
end
section
variable {l : Launch} {D : va_G} {n0 : Nat} {P : mP} {S : mSh} {M : mMm} {n : Nat} {p : Program} {e : Env} {s : State} {m : MethodId} {args : Array Value} {below : List Frame} {meth : Method} {c : Code}
abbrev Rm_X0_isOpen : Room := { frames := 1, cells := 0, slots := 0, locals := 22 }
def f_X0_isOpen (S : mSh) (M : mMm) (x0 : Nat) (x1 : Int32) : Option Int32 := ob (f_X0_isIn x1 (0 : Int32) (143 : Int32)) fun v2 => (if v2 = 0 then some (0 : Int32) else ob (rR S M x0 1 4) fun v4 => ob (rR S M v4 2 0) fun v6 => ob (aI S M v6 100 x1) fun v8 => (if v8 = (1 : Int32) then some (0 : Int32) else some (1 : Int32)))
theorem w_X0_isOpen {x0 : Nat} {x1 : Int32} {r : Int32} (hF : f_X0_isOpen S M x0 x1 = some r) : mCt l D n0 P yX0_isOpen cX0_isOpen 2 (some .boolean) 1 22 0 0 [.ref x0, .int x1] S M n (some (.int r)) S M n := by
  refine m_ofW (by decide) (Nat.le_of_ble_eq_true rfl) (fun p e s m below meth c X hnm hp ls hl => ?_)
  have hx := X.1.1
  have hb := X.1.2.1
  have hown := X.1.2.2.2.1
  have hts := X.1.2.2.2.2
  have hl : lv_has ls 2 [(0, .ref x0), (1, .int x1)] := hl
  unfold f_X0_isOpen at hF
  refine lv_iload_n hx hb dX0_isOpen_0 rfl (lv_at hl 1 rfl) ?_
  refine lv_iconst (v := 0) hx hb dX0_isOpen_1 (by decide) ?_
  refine lv_sipush (v := 143) hx hb dX0_isOpen_2 (by decide) ?_
  obtain ⟨v2, e1, hF⟩ := ob_s hF
  refine m_callS (As := [.int x1, .int (0 : Int32), .int (143 : Int32)]) (rest := []) X hp (w_X0_isIn e1) q565 q566 q132 q567 3 rfl ds_X0_isIn ⟨Nat.le_of_ble_eq_true rfl, Nat.le_of_ble_eq_true rfl⟩ hl.1 rfl (Nat.le_of_ble_eq_true rfl) dX0_isOpen_5 ⟨Nat.le_refl 0, Nat.le_refl 0⟩ (fun H locs hp => ?_)
  refine lv_if_eq (tgt := 28) hx hb dX0_isOpen_8 (by decide) (fun c3 => ?_) (fun c3 => ?_)
  · have hF := if_p c3 hF
    refine lv_iconst (v := 0) hx hb dX0_isOpen_28 (by decide) ?_
    cases hF
    exact m_zret X hp rfl dX0_isOpen_29
  · have hF := if_n c3 hF
    refine lv_aload_n hx hb dX0_isOpen_11 rfl (lv_at hl 0 rfl) ?_
    obtain ⟨v4, e5, hF⟩ := ob_s hF
    refine m_getR X hp e5 kX0 (Nat.le_of_ble_eq_true rfl) q463 dX0_isOpen_12 ?_
    obtain ⟨v6, e7, hF⟩ := ob_s hF
    refine m_getRN X hp e7 kX1 (Nat.le_of_ble_eq_true rfl) q376 dX0_isOpen_15 ?_
    refine lv_iload_n hx hb dX0_isOpen_18 rfl (lv_at hl 1 rfl) ?_
    obtain ⟨v8, e9, hF⟩ := ob_s hF
    refine m_iaI X hp e9 dX0_isOpen_19 ?_
    refine lv_iconst (v := 1) hx hb dX0_isOpen_20 (by decide) ?_
    refine lv_icmp_eq (tgt := 28) hx hb dX0_isOpen_21 (by decide) (fun c10 => ?_) (fun c10 => ?_)
    · have hF := if_p c10 hF
      refine lv_iconst (v := 0) hx hb dX0_isOpen_28 (by decide) ?_
      cases hF
      exact m_zret X hp rfl dX0_isOpen_29
    · have hF := if_n c10 hF
      refine lv_iconst (v := 1) hx hb dX0_isOpen_24 (by decide) ?_
      refine lv_goto (tgt := 29) hx hb dX0_isOpen_25 (by decide) ?_
      cases hF
      exact m_zret X hp rfl dX0_isOpen_29
end
section
variable {l : Launch} {D : va_G} {n0 : Nat} {P : mP} {S : mSh} {M : mMm} {n : Nat} {p : Program} {e : Env} {s : State} {m : MethodId} {args : Array Value} {below : List Frame} {meth : Method} {c : Code}
abbrev Rm_X0_enters (frr lor : Nat) : Room := { frames := frr + 1, cells := 0, slots := 0, locals := lor + 24 }
def fb_X0_enters_83 (S : mSh) (rec : mMm → Nat → Int32 → Option (Int32 × mMm)) (M : mMm) (x0 : Nat) (x1 : Int32) (x2 : Int32) : Option (Int32 × mMm) := ob (rR S M x0 1 21) fun v41 => ob (wA S M v41 100 x1 (.int x2)) fun M43 => some ((1 : Int32), M43)
theorem b_X0_enters_83 {r : Int32} {M' : mMm} {frr lor : Nat} {rec : mMm → Nat → Int32 → Option (Int32 × mMm)} (hrec : ∀ {M M' : mMm} {x0 : Nat} {x1 : Int32} {r : Int32}, rec M x0 x1 = some (r, M') → mCt l D n0 P yX0_leaves cX0_leaves 5 (some .boolean) frr lor 0 0 [.ref x0, .int x1] S M n (some (.int r)) S M' n) (hfl : 3 ≤ frr ∧ 66 ≤ lor) (X : mCx D n0 P p m c cX0_enters 3 s args yX0_enters.cls meth (some .boolean)) : ∀ (M : mMm) (x0 : Nat) (x1 : Int32) (x2 : Int32) (H : Heap) (locs : List Loc) (ls : Array Slot), mHp D n0 S M n s H locs → lv_has ls 3 [(0, .ref x0), (1, .int x1), (2, .int x2)] → fb_X0_enters_83 S rec M x0 x1 x2 = some (r, M') → W p l e (Rm_X0_enters frr lor) s m args below meth c H locs 0 0 (MQ below (mQ D n0 (some (.int r)) S M' n) args s 0 0 (mA n0)) (F0 m 83 ls []) := by
  have hx := X.1.1
  have hb := X.1.2.1
  have hown := X.1.2.2.2.1
  have hts := X.1.2.2.2.2
  intro M x0 x1 x2 H locs ls hp hl hF
  unfold fb_X0_enters_83 at hF
  refine lv_aload_n hx hb dX0_enters_83 rfl (lv_at hl 0 rfl) ?_
  obtain ⟨v41, e42, hF⟩ := ob_s hF
  refine m_getR X hp e42 kX0 (Nat.le_of_ble_eq_true rfl) q481 dX0_enters_84 ?_
  refine lv_iload_n hx hb dX0_enters_87 rfl (lv_at hl 1 rfl) ?_
  refine lv_iload_n hx hb dX0_enters_88 rfl (lv_at hl 2 rfl) ?_
  obtain ⟨M43, e44, hF⟩ := ob_s hF
  refine m_iaW X hp e44 dX0_enters_89 (fun H locs hp => ?_)
  refine lv_iconst (v := 1) hx hb dX0_enters_90 (by decide) ?_
  cases hF
  exact m_zret X hp rfl dX0_enters_91
def fb_X0_enters_63 (S : mSh) (rec : mMm → Nat → Int32 → Option (Int32 × mMm)) (M : mMm) (x0 : Nat) (x1 : Int32) (x2 : Int32) : Option (Int32 × mMm) := ob (rR S M x0 1 22) fun v32 => ob (aI S M v32 100 x1) fun v34 => (if v34 = (-1 : Int32) then ob (rec M x0 x1) fun ⟨v38, M39⟩ => (if v38 = 0 then some ((0 : Int32), M39) else (fb_X0_enters_83 S rec M39 x0 x1 x2)) else (fb_X0_enters_83 S rec M x0 x1 x2))
theorem b_X0_enters_63 {r : Int32} {M' : mMm} {frr lor : Nat} {rec : mMm → Nat → Int32 → Option (Int32 × mMm)} (hrec : ∀ {M M' : mMm} {x0 : Nat} {x1 : Int32} {r : Int32}, rec M x0 x1 = some (r, M') → mCt l D n0 P yX0_leaves cX0_leaves 5 (some .boolean) frr lor 0 0 [.ref x0, .int x1] S M n (some (.int r)) S M' n) (hfl : 3 ≤ frr ∧ 66 ≤ lor) (X : mCx D n0 P p m c cX0_enters 3 s args yX0_enters.cls meth (some .boolean)) : ∀ (M : mMm) (x0 : Nat) (x1 : Int32) (x2 : Int32) (H : Heap) (locs : List Loc) (ls : Array Slot), mHp D n0 S M n s H locs → lv_has ls 3 [(0, .ref x0), (1, .int x1), (2, .int x2)] → fb_X0_enters_63 S rec M x0 x1 x2 = some (r, M') → W p l e (Rm_X0_enters frr lor) s m args below meth c H locs 0 0 (MQ below (mQ D n0 (some (.int r)) S M' n) args s 0 0 (mA n0)) (F0 m 63 ls []) := by
  have hx := X.1.1
  have hb := X.1.2.1
  have hown := X.1.2.2.2.1
  have hts := X.1.2.2.2.2
  intro M x0 x1 x2 H locs ls hp hl hF
  unfold fb_X0_enters_63 at hF
  refine lv_aload_n hx hb dX0_enters_63 rfl (lv_at hl 0 rfl) ?_
  obtain ⟨v32, e33, hF⟩ := ob_s hF
  refine m_getR X hp e33 kX0 (Nat.le_of_ble_eq_true rfl) q482 dX0_enters_64 ?_
  refine lv_iload_n hx hb dX0_enters_67 rfl (lv_at hl 1 rfl) ?_
  obtain ⟨v34, e35, hF⟩ := ob_s hF
  refine m_iaI X hp e35 dX0_enters_68 ?_
  refine lv_iconst (v := -1) hx hb dX0_enters_69 (by decide) ?_
  refine lv_icmp_ne (tgt := 83) hx hb dX0_enters_70 (by decide) (fun c36 => ?_) (fun c36 => ?_)
  · have hF := if_n c36 hF
    exact b_X0_enters_83 hrec hfl X _ _ _ _ _ _ _ hp (lv_sub hl [0, 1, 2] rfl) hF
  · have hF := if_p c36 hF
    refine lv_aload_n hx hb dX0_enters_73 rfl (lv_at hl 0 rfl) ?_
    refine lv_iload_n hx hb dX0_enters_74 rfl (lv_at hl 1 rfl) ?_
    obtain ⟨⟨v38, M39⟩, e37, hF⟩ := ob_s hF
    refine m_callV (As := [.int x1]) (rest := []) X hp (hrec e37) q1367 q1369 qs56 q132 q1370 1 rfl ds_X0_leaves ⟨by show _ ≤ frr + 1; omega, by show _ ≤ lor + 24; omega⟩ 1 (T := TX0) (N := 30) rfl (by decide) (rR_s e33).1 hl.1 rfl (Nat.le_of_ble_eq_true rfl) dX0_enters_75 ⟨Nat.le_refl 0, Nat.le_refl 0⟩ (fun H locs hp => ?_)
    refine lv_if_ne (tgt := 83) hx hb dX0_enters_78 (by decide) (fun c40 => ?_) (fun c40 => ?_)
    · have hF := if_n c40 hF
      exact b_X0_enters_83 hrec hfl X _ _ _ _ _ _ _ hp (lv_sub hl [0, 1, 2] rfl) hF
    · have hF := if_p c40 hF
      refine lv_iconst (v := 0) hx hb dX0_enters_81 (by decide) ?_
      cases hF
      exact m_zret X hp rfl dX0_enters_82
def fo_X0_enters (S : mSh) (rec : mMm → Nat → Int32 → Option (Int32 × mMm)) (M : mMm) (x0 : Nat) (x1 : Int32) (x2 : Int32) : Option (Int32 × mMm) := gd ((S x0).1 = 1) (ob (f_X0_isOpen S M x0 x1) fun v3 => (if v3 = 0 then some ((0 : Int32), M) else ob (rR S M x0 1 23) fun v5 => ob (aI S M v5 102 x1) fun v7 => (if v7 = 0 then ob (rR S M x0 1 23) fun v10 => ob (wA S M v10 102 x1 (.int ((1 : Int32) &&& 1))) fun M12 => ob (rR S M12 x0 1 22) fun v14 => ob (aI S M12 v14 100 x1) fun v16 => (if v16 = (-1 : Int32) then (fb_X0_enters_63 S rec M12 x0 x1 x2) else ob (rR S M12 x0 1 21) fun v19 => ob (aI S M12 v19 100 x1) fun v21 => (if v21 = (144 : Int32) then some ((0 : Int32), M12) else ob (rR S M12 x0 1 21) fun v24 => ob (aI S M12 v24 100 x1) fun v26 => ob (rec M12 x0 v26) fun ⟨v29, M30⟩ => (if v29 = 0 then some ((0 : Int32), M30) else (fb_X0_enters_63 S rec M30 x0 x1 x2)))) else some ((0 : Int32), M))))
theorem wo_X0_enters {x0 : Nat} {x1 : Int32} {x2 : Int32} {r : Int32} {M' : mMm} {frr lor : Nat} {rec : mMm → Nat → Int32 → Option (Int32 × mMm)} (hrec : ∀ {M M' : mMm} {x0 : Nat} {x1 : Int32} {r : Int32}, rec M x0 x1 = some (r, M') → mCt l D n0 P yX0_leaves cX0_leaves 5 (some .boolean) frr lor 0 0 [.ref x0, .int x1] S M n (some (.int r)) S M' n) (hfl : 3 ≤ frr ∧ 66 ≤ lor) (hF : fo_X0_enters S rec M x0 x1 x2 = some (r, M')) : mCt l D n0 P yX0_enters cX0_enters 3 (some .boolean) (frr + 1) (lor + 24) 0 0 [.ref x0, .int x1, .int x2] S M n (some (.int r)) S M' n := by
  refine m_ofW (by decide) (Nat.le_of_ble_eq_true rfl) (fun p e s m below meth c X hnm hp ls hl => ?_)
  have hx := X.1.1
  have hb := X.1.2.1
  have hown := X.1.2.2.2.1
  have hts := X.1.2.2.2.2
  have hl : lv_has ls 3 [(0, .ref x0), (1, .int x1), (2, .int x2)] := hl
  unfold fo_X0_enters at hF
  refine lv_aload_n hx hb dX0_enters_0 rfl (lv_at hl 0 rfl) ?_
  refine lv_iload_n hx hb dX0_enters_1 rfl (lv_at hl 1 rfl) ?_
  obtain ⟨g1, hF⟩ := gd_s hF
  obtain ⟨v3, e2, hF⟩ := ob_s hF
  refine m_callV (As := [.int x1]) (rest := []) X hp (w_X0_isOpen e2) q1228 q1230 qs41 q132 q1231 1 rfl ds_X0_isOpen ⟨by show _ ≤ frr + 1; omega, by show _ ≤ lor + 24; omega⟩ 1 (T := TX0) (N := 30) rfl (by decide) g1 hl.1 rfl (Nat.le_of_ble_eq_true rfl) dX0_enters_2 ⟨Nat.le_refl 0, Nat.le_refl 0⟩ (fun H locs hp => ?_)
  refine lv_if_eq (tgt := 17) hx hb dX0_enters_5 (by decide) (fun c4 => ?_) (fun c4 => ?_)
  · have hF := if_p c4 hF
    refine lv_iconst (v := 0) hx hb dX0_enters_17 (by decide) ?_
    cases hF
    exact m_zret X hp rfl dX0_enters_18
  · have hF := if_n c4 hF
    refine lv_aload_n hx hb dX0_enters_8 rfl (lv_at hl 0 rfl) ?_
    obtain ⟨v5, e6, hF⟩ := ob_s hF
    refine m_getR X hp e6 kX0 (Nat.le_of_ble_eq_true rfl) q483 dX0_enters_9 ?_
    refine lv_iload_n hx hb dX0_enters_12 rfl (lv_at hl 1 rfl) ?_
    obtain ⟨v7, e8, hF⟩ := ob_s hF
    refine m_zaI X hp e8 dX0_enters_13 ?_
    refine lv_if_eq (tgt := 19) hx hb dX0_enters_14 (by decide) (fun c9 => ?_) (fun c9 => ?_)
    · have hF := if_p c9 hF
      refine lv_aload_n hx hb dX0_enters_19 rfl (lv_at hl 0 rfl) ?_
      obtain ⟨v10, e11, hF⟩ := ob_s hF
      refine m_getR X hp e11 kX0 (Nat.le_of_ble_eq_true rfl) q483 dX0_enters_20 ?_
      refine lv_iload_n hx hb dX0_enters_23 rfl (lv_at hl 1 rfl) ?_
      refine lv_iconst (v := 1) hx hb dX0_enters_24 (by decide) ?_
      obtain ⟨M12, e13, hF⟩ := ob_s hF
      refine m_zaW X hp e13 dX0_enters_25 (fun H locs hp => ?_)
      refine lv_aload_n hx hb dX0_enters_26 rfl (lv_at hl 0 rfl) ?_
      obtain ⟨v14, e15, hF⟩ := ob_s hF
      refine m_getR X hp e15 kX0 (Nat.le_of_ble_eq_true rfl) q482 dX0_enters_27 ?_
      refine lv_iload_n hx hb dX0_enters_30 rfl (lv_at hl 1 rfl) ?_
      obtain ⟨v16, e17, hF⟩ := ob_s hF
      refine m_iaI X hp e17 dX0_enters_31 ?_
      refine lv_iconst (v := -1) hx hb dX0_enters_32 (by decide) ?_
      refine lv_icmp_eq (tgt := 63) hx hb dX0_enters_33 (by decide) (fun c18 => ?_) (fun c18 => ?_)
      · have hF := if_p c18 hF
        exact b_X0_enters_63 hrec hfl X _ _ _ _ _ _ _ hp (lv_sub hl [0, 1, 2] rfl) hF
      · have hF := if_n c18 hF
        refine lv_aload_n hx hb dX0_enters_36 rfl (lv_at hl 0 rfl) ?_
        obtain ⟨v19, e20, hF⟩ := ob_s hF
        refine m_getR X hp e20 kX0 (Nat.le_of_ble_eq_true rfl) q481 dX0_enters_37 ?_
        refine lv_iload_n hx hb dX0_enters_40 rfl (lv_at hl 1 rfl) ?_
        obtain ⟨v21, e22, hF⟩ := ob_s hF
        refine m_iaI X hp e22 dX0_enters_41 ?_
        refine lv_sipush (v := 144) hx hb dX0_enters_42 (by decide) ?_
        refine lv_icmp_eq (tgt := 61) hx hb dX0_enters_45 (by decide) (fun c23 => ?_) (fun c23 => ?_)
        · have hF := if_p c23 hF
          refine lv_iconst (v := 0) hx hb dX0_enters_61 (by decide) ?_
          cases hF
          exact m_zret X hp rfl dX0_enters_62
        · have hF := if_n c23 hF
          refine lv_aload_n hx hb dX0_enters_48 rfl (lv_at hl 0 rfl) ?_
          refine lv_aload_n hx hb dX0_enters_49 rfl (lv_at hl 0 rfl) ?_
          obtain ⟨v24, e25, hF⟩ := ob_s hF
          refine m_getR X hp e25 kX0 (Nat.le_of_ble_eq_true rfl) q481 dX0_enters_50 ?_
          refine lv_iload_n hx hb dX0_enters_53 rfl (lv_at hl 1 rfl) ?_
          obtain ⟨v26, e27, hF⟩ := ob_s hF
          refine m_iaI X hp e27 dX0_enters_54 ?_
          obtain ⟨⟨v29, M30⟩, e28, hF⟩ := ob_s hF
          refine m_callV (As := [.int v26]) (rest := []) X hp (hrec e28) q1367 q1369 qs56 q132 q1370 1 rfl ds_X0_leaves ⟨by show _ ≤ frr + 1; omega, by show _ ≤ lor + 24; omega⟩ 1 (T := TX0) (N := 30) rfl (by decide) (rR_s e25).1 hl.1 rfl (Nat.le_of_ble_eq_true rfl) dX0_enters_55 ⟨Nat.le_refl 0, Nat.le_refl 0⟩ (fun H locs hp => ?_)
          refine lv_if_ne (tgt := 63) hx hb dX0_enters_58 (by decide) (fun c31 => ?_) (fun c31 => ?_)
          · have hF := if_n c31 hF
            exact b_X0_enters_63 hrec hfl X _ _ _ _ _ _ _ hp (lv_sub hl [0, 1, 2] rfl) hF
          · have hF := if_p c31 hF
            refine lv_iconst (v := 0) hx hb dX0_enters_61 (by decide) ?_
            cases hF
            exact m_zret X hp rfl dX0_enters_62
    · have hF := if_n c9 hF
      refine lv_iconst (v := 0) hx hb dX0_enters_17 (by decide) ?_
      cases hF
      exact m_zret X hp rfl dX0_enters_18
end
section
variable {l : Launch} {D : va_G} {n0 : Nat} {P : mP} {S : mSh} {M : mMm} {n : Nat} {p : Program} {e : Env} {s : State} {m : MethodId} {args : Array Value} {below : List Frame} {meth : Method} {c : Code}
abbrev Rm_X0_isCell : Room := { frames := 1, cells := 0, slots := 0, locals := 22 }
def f_X0_isCell (x0 : Int32) (x1 : Int32) : Option Int32 := ob (f_X0_isIn x0 (0 : Int32) (11 : Int32)) fun v2 => (if v2 = 0 then some (0 : Int32) else ob (f_X0_isIn x1 (0 : Int32) (11 : Int32)) fun v5 => (if v5 = 0 then some (0 : Int32) else some (1 : Int32)))
theorem w_X0_isCell {x0 : Int32} {x1 : Int32} {r : Int32} (hF : f_X0_isCell x0 x1 = some r) : mCt l D n0 P yX0_isCell cX0_isCell 2 (some .boolean) 1 22 0 0 [.int x0, .int x1] S M n (some (.int r)) S M n := by
  refine m_ofW (by decide) (Nat.le_of_ble_eq_true rfl) (fun p e s m below meth c X hnm hp ls hl => ?_)
  have hx := X.1.1
  have hb := X.1.2.1
  have hown := X.1.2.2.2.1
  have hts := X.1.2.2.2.2
  have hl : lv_has ls 2 [(0, .int x0), (1, .int x1)] := hl
  unfold f_X0_isCell at hF
  refine lv_iload_n hx hb dX0_isCell_0 rfl (lv_at hl 0 rfl) ?_
  refine lv_iconst (v := 0) hx hb dX0_isCell_1 (by decide) ?_
  refine lv_bipush (v := 11) hx hb dX0_isCell_2 (by decide) ?_
  obtain ⟨v2, e1, hF⟩ := ob_s hF
  refine m_callS (As := [.int x0, .int (0 : Int32), .int (11 : Int32)]) (rest := []) X hp (w_X0_isIn e1) q565 q566 q132 q567 3 rfl ds_X0_isIn ⟨Nat.le_of_ble_eq_true rfl, Nat.le_of_ble_eq_true rfl⟩ hl.1 rfl (Nat.le_of_ble_eq_true rfl) dX0_isCell_4 ⟨Nat.le_refl 0, Nat.le_refl 0⟩ (fun H locs hp => ?_)
  refine lv_if_eq (tgt := 24) hx hb dX0_isCell_7 (by decide) (fun c3 => ?_) (fun c3 => ?_)
  · have hF := if_p c3 hF
    refine lv_iconst (v := 0) hx hb dX0_isCell_24 (by decide) ?_
    cases hF
    exact m_zret X hp rfl dX0_isCell_25
  · have hF := if_n c3 hF
    refine lv_iload_n hx hb dX0_isCell_10 rfl (lv_at hl 1 rfl) ?_
    refine lv_iconst (v := 0) hx hb dX0_isCell_11 (by decide) ?_
    refine lv_bipush (v := 11) hx hb dX0_isCell_12 (by decide) ?_
    obtain ⟨v5, e4, hF⟩ := ob_s hF
    refine m_callS (As := [.int x1, .int (0 : Int32), .int (11 : Int32)]) (rest := []) X hp (w_X0_isIn e4) q565 q566 q132 q567 3 rfl ds_X0_isIn ⟨Nat.le_of_ble_eq_true rfl, Nat.le_of_ble_eq_true rfl⟩ hl.1 rfl (Nat.le_of_ble_eq_true rfl) dX0_isCell_14 ⟨Nat.le_refl 0, Nat.le_refl 0⟩ (fun H locs hp => ?_)
    refine lv_if_eq (tgt := 24) hx hb dX0_isCell_17 (by decide) (fun c6 => ?_) (fun c6 => ?_)
    · have hF := if_p c6 hF
      refine lv_iconst (v := 0) hx hb dX0_isCell_24 (by decide) ?_
      cases hF
      exact m_zret X hp rfl dX0_isCell_25
    · have hF := if_n c6 hF
      refine lv_iconst (v := 1) hx hb dX0_isCell_20 (by decide) ?_
      refine lv_goto (tgt := 25) hx hb dX0_isCell_21 (by decide) ?_
      cases hF
      exact m_zret X hp rfl dX0_isCell_25
end
section
variable {l : Launch} {D : va_G} {n0 : Nat} {P : mP} {S : mSh} {M : mMm} {n : Nat} {p : Program} {e : Env} {s : State} {m : MethodId} {args : Array Value} {below : List Frame} {meth : Method} {c : Code}
abbrev Rm_X0_on : Room := { frames := 2, cells := 0, slots := 0, locals := 43 }
def f_X0_on (x0 : Int32) (x1 : Int32) : Option Int32 := ob (f_X0_right x1) fun v2 => nm (((x0 - x0 / (12 : Int32) * (12 : Int32)) + v2)) fun v3 => ob (f_X0_up x1) fun v6 => nm (((x0 / (12 : Int32)) + v6)) fun v7 => ob (f_X0_isCell v3 v7) fun v10 => (if v10 = 0 then some (-1 : Int32) else some (((12 : Int32) * v7) + v3))
theorem w_X0_on {x0 : Int32} {x1 : Int32} {r : Int32} (hF : f_X0_on x0 x1 = some r) : mCt l D n0 P yX0_on cX0_on 4 (some .int) 2 43 0 0 [.int x0, .int x1] S M n (some (.int r)) S M n := by
  refine m_ofW (by decide) (Nat.le_of_ble_eq_true rfl) (fun p e s m below meth c X hnm hp ls hl => ?_)
  have hx := X.1.1
  have hb := X.1.2.1
  have hown := X.1.2.2.2.1
  have hts := X.1.2.2.2.2
  have hl : lv_has ls 4 [(0, .int x0), (1, .int x1)] := hl
  unfold f_X0_on at hF
  refine lv_iload_n hx hb dX0_on_0 rfl (lv_at hl 0 rfl) ?_
  refine lv_bipush (v := 12) hx hb dX0_on_1 (by decide) ?_
  refine lv_irem hx hb dX0_on_3 (by decide) ?_
  refine lv_iload_n hx hb dX0_on_4 rfl (lv_at hl 1 rfl) ?_
  obtain ⟨v2, e1, hF⟩ := ob_s hF
  refine m_callS (As := [.int x1]) (rest := [.int (x0 - x0 / (12 : Int32) * (12 : Int32))]) X hp (w_X0_right e1) q1105 q1106 q132 q1107 1 rfl ds_X0_right ⟨Nat.le_of_ble_eq_true rfl, Nat.le_of_ble_eq_true rfl⟩ hl.1 rfl (Nat.le_of_ble_eq_true rfl) dX0_on_5 ⟨Nat.le_refl 0, Nat.le_refl 0⟩ (fun H locs hp => ?_)
  refine lv_iadd hx hb dX0_on_8 ?_
  refine lv_topi (fun v3 ev4 => ?_)
  have hF := nm_s hF ev4
  refine lv_istore_n (lv' := [(2, .int v3), (0, .int x0), (1, .int x1)]) hx hb dX0_on_9 rfl hl (by decide) rfl (fun ls hl => ?_)
  refine lv_iload_n hx hb dX0_on_10 rfl (lv_at hl 1 rfl) ?_
  refine lv_bipush (v := 12) hx hb dX0_on_11 (by decide) ?_
  refine lv_idiv hx hb dX0_on_13 (by decide) ?_
  refine lv_iload_n hx hb dX0_on_14 rfl (lv_at hl 2 rfl) ?_
  obtain ⟨v6, e5, hF⟩ := ob_s hF
  refine m_callS (As := [.int x1]) (rest := [.int (x0 / (12 : Int32))]) X hp (w_X0_up e5) q1108 q1109 q132 q1110 1 rfl ds_X0_up ⟨Nat.le_of_ble_eq_true rfl, Nat.le_of_ble_eq_true rfl⟩ hl.1 rfl (Nat.le_of_ble_eq_true rfl) dX0_on_15 ⟨Nat.le_refl 0, Nat.le_refl 0⟩ (fun H locs hp => ?_)
  refine lv_iadd hx hb dX0_on_18 ?_
  refine lv_topi (fun v7 ev8 => ?_)
  have hF := nm_s hF ev8
  refine lv_istore_n (lv' := [(3, .int v7), (2, .int v3), (0, .int x0), (1, .int x1)]) hx hb dX0_on_19 rfl hl (by decide) rfl (fun ls hl => ?_)
  refine lv_iload_n hx hb dX0_on_20 rfl (lv_at hl 1 rfl) ?_
  refine lv_iload_n hx hb dX0_on_21 rfl (lv_at hl 0 rfl) ?_
  obtain ⟨v10, e9, hF⟩ := ob_s hF
  refine m_callS (As := [.int v3, .int v7]) (rest := []) X hp (w_X0_isCell e9) q1068 q1069 q132 q1070 2 rfl ds_X0_isCell ⟨Nat.le_of_ble_eq_true rfl, Nat.le_of_ble_eq_true rfl⟩ hl.1 rfl (Nat.le_of_ble_eq_true rfl) dX0_on_22 ⟨Nat.le_refl 0, Nat.le_refl 0⟩ (fun H locs hp => ?_)
  refine lv_if_eq (tgt := 37) hx hb dX0_on_25 (by decide) (fun c11 => ?_) (fun c11 => ?_)
  · have hF := if_p c11 hF
    refine lv_iconst (v := -1) hx hb dX0_on_37 (by decide) ?_
    cases hF
    exact m_iret X hp dX0_on_38
  · have hF := if_n c11 hF
    refine lv_bipush (v := 12) hx hb dX0_on_28 (by decide) ?_
    refine lv_iload_n hx hb dX0_on_30 rfl (lv_at hl 0 rfl) ?_
    refine lv_imul hx hb dX0_on_31 ?_
    refine lv_iload_n hx hb dX0_on_32 rfl (lv_at hl 1 rfl) ?_
    refine lv_iadd hx hb dX0_on_33 ?_
    refine lv_goto (tgt := 38) hx hb dX0_on_34 (by decide) ?_
    cases hF
    exact m_iret X hp dX0_on_38
end
section
variable {l : Launch} {D : va_G} {n0 : Nat} {P : mP} {S : mSh} {M : mMm} {n : Nat} {p : Program} {e : Env} {s : State} {m : MethodId} {args : Array Value} {below : List Frame} {meth : Method} {c : Code}
abbrev Rm_X0_leaves (frr lor : Nat) : Room := { frames := frr + 2, cells := 0, slots := 0, locals := lor + 46 }
def fb_X0_leaves_101 (S : mSh) (rec : mMm → Nat → Int32 → Option (Int32 × mMm)) (k54 : mMm → Nat → Int32 → Int32 → Int32 → Option (Int32 × mMm)) (M : mMm) (x0 : Nat) (x1 : Int32) (x2 : Int32) (x3 : Int32) : Option (Int32 × mMm) := nm (x3 + (1 : Int32)) fun v67 => (k54 M x0 x1 x2 v67)
theorem b_X0_leaves_101 {r : Int32} {M' : mMm} {frr lor : Nat} {rec : mMm → Nat → Int32 → Option (Int32 × mMm)} (hrec : ∀ {M M' : mMm} {x0 : Nat} {x1 : Int32} {r : Int32}, rec M x0 x1 = some (r, M') → mCt l D n0 P yX0_leaves cX0_leaves 5 (some .boolean) frr lor 0 0 [.ref x0, .int x1] S M n (some (.int r)) S M' n) (hfl : 3 ≤ frr ∧ 66 ≤ lor) (X : mCx D n0 P p m c cX0_leaves 5 s args yX0_leaves.cls meth (some .boolean)) (k54 : mMm → Nat → Int32 → Int32 → Int32 → Option (Int32 × mMm)) (hk54 : ∀ (M : mMm) (x0 : Nat) (x1 : Int32) (x2 : Int32) (x3 : Int32) (H : Heap) (locs : List Loc) (ls : Array Slot), mHp D n0 S M n s H locs → lv_has ls 5 [(0, .ref x0), (1, .int x1), (2, .int x2), (3, .int x3)] → k54 M x0 x1 x2 x3 = some (r, M') → W p l e (Rm_X0_leaves frr lor) s m args below meth c H locs 0 0 (MQ below (mQ D n0 (some (.int r)) S M' n) args s 0 0 (mA n0)) (F0 m 54 ls [])) : ∀ (M : mMm) (x0 : Nat) (x1 : Int32) (x2 : Int32) (x3 : Int32) (H : Heap) (locs : List Loc) (ls : Array Slot), mHp D n0 S M n s H locs → lv_has ls 5 [(0, .ref x0), (1, .int x1), (2, .int x2), (3, .int x3)] → fb_X0_leaves_101 S rec k54 M x0 x1 x2 x3 = some (r, M') → W p l e (Rm_X0_leaves frr lor) s m args below meth c H locs 0 0 (MQ below (mQ D n0 (some (.int r)) S M' n) args s 0 0 (mA n0)) (F0 m 101 ls []) := by
  have hx := X.1.1
  have hb := X.1.2.1
  have hown := X.1.2.2.2.1
  have hts := X.1.2.2.2.2
  intro M x0 x1 x2 x3 H locs ls hp hl hF
  unfold fb_X0_leaves_101 at hF
  obtain ⟨v67, ev68⟩ : ∃ y : Int32, y = x3 + (1 : Int32) := ⟨_, rfl⟩
  have hF := nm_s hF ev68
  refine lv_iinc (v := v67) (lv' := [(3, .int v67), (0, .ref x0), (1, .int x1), (2, .int x2)]) hx hb dX0_leaves_101 hl (k := 3) rfl (by rw [ev68]; rfl) (by decide) rfl (fun ls hl => ?_)
  refine lv_goto (tgt := 54) hx hb dX0_leaves_104 (by decide) ?_
  exact hk54 _ _ _ _ _ _ _ _ hp (lv_sub hl [1, 2, 3, 0] rfl) hF
def fb_X0_leaves_54 (S : mSh) (rec : mMm → Nat → Int32 → Option (Int32 × mMm)) : Nat → mMm → Nat → Int32 → Int32 → Int32 → Option (Int32 × mMm)
  | 0, _, _, _, _, _ => none
  | t + 1, M, x0, x1, x2, x3 => (if (4 : Int32) ≤ x3 then (if x2 = (-1 : Int32) then some ((0 : Int32), M) else ob (rR S M x0 1 21) fun v24 => ob (aI S M v24 100 x1) fun v26 => (if v26 = (144 : Int32) then some ((0 : Int32), M) else ob (rR S M x0 1 23) fun v29 => ob (aI S M v29 102 x1) fun v31 => (if v31 = 0 then ob (rR S M x0 1 23) fun v34 => ob (wA S M v34 102 x1 (.int ((1 : Int32) &&& 1))) fun M36 => ob (rR S M36 x0 1 21) fun v38 => ob (aI S M36 v38 100 x1) fun v40 => ob (rec M36 x0 v40) fun ⟨v43, M44⟩ => (if v43 = 0 then some ((0 : Int32), M44) else ob (rR S M44 x0 1 22) fun v46 => ob (wA S M44 v46 100 x1 (.int (-1 : Int32))) fun M48 => ob (rR S M48 x0 1 21) fun v50 => ob (wA S M48 v50 100 x1 (.int (-1 : Int32))) fun M52 => some ((1 : Int32), M52)) else some ((0 : Int32), M)))) else ob (f_X0_on x1 x3) fun v55 => (if v55 = (-1 : Int32) then (fb_X0_leaves_101 S rec (fb_X0_leaves_54 S rec t) M x0 x1 x2 x3) else (if v55 = x2 then (fb_X0_leaves_101 S rec (fb_X0_leaves_54 S rec t) M x0 x1 x2 x3) else gd ((S x0).1 = 1) (ob (fo_X0_enters S rec M x0 v55 x1) fun ⟨v60, M61⟩ => (if v60 = 0 then (fb_X0_leaves_101 S rec (fb_X0_leaves_54 S rec t) M61 x0 x1 x2 x3) else ob (rR S M61 x0 1 22) fun v63 => ob (wA S M61 v63 100 x1 (.int v55)) fun M65 => some ((1 : Int32), M65))))))
theorem b_X0_leaves_54 {r : Int32} {M' : mMm} {frr lor : Nat} {rec : mMm → Nat → Int32 → Option (Int32 × mMm)} (hrec : ∀ {M M' : mMm} {x0 : Nat} {x1 : Int32} {r : Int32}, rec M x0 x1 = some (r, M') → mCt l D n0 P yX0_leaves cX0_leaves 5 (some .boolean) frr lor 0 0 [.ref x0, .int x1] S M n (some (.int r)) S M' n) (hfl : 3 ≤ frr ∧ 66 ≤ lor) (X : mCx D n0 P p m c cX0_leaves 5 s args yX0_leaves.cls meth (some .boolean)) : ∀ t : Nat, ∀ (M : mMm) (x0 : Nat) (x1 : Int32) (x2 : Int32) (x3 : Int32) (H : Heap) (locs : List Loc) (ls : Array Slot), mHp D n0 S M n s H locs → lv_has ls 5 [(0, .ref x0), (1, .int x1), (2, .int x2), (3, .int x3)] → fb_X0_leaves_54 S rec t M x0 x1 x2 x3 = some (r, M') → W p l e (Rm_X0_leaves frr lor) s m args below meth c H locs 0 0 (MQ below (mQ D n0 (some (.int r)) S M' n) args s 0 0 (mA n0)) (F0 m 54 ls []) := by
  have hx := X.1.1
  have hb := X.1.2.1
  have hown := X.1.2.2.2.1
  have hts := X.1.2.2.2.2
  intro t
  induction t with
  | zero =>
    intro M x0 x1 x2 x3 H locs ls hp hl hF
    have hF : none = some (r, M') := hF
    cases hF
  | succ t ih =>
    intro M x0 x1 x2 x3 H locs ls hp hl hF
    rw [fb_X0_leaves_54] at hF
    refine lv_iload_n hx hb dX0_leaves_54 rfl (lv_at hl 3 rfl) ?_
    refine lv_iconst (v := 4) hx hb dX0_leaves_55 (by decide) ?_
    refine lv_icmp_ge (tgt := 107) hx hb dX0_leaves_56 (by decide) (fun c22 => ?_) (fun c22 => ?_)
    · have hF := if_p c22 hF
      refine lv_iload_n hx hb dX0_leaves_107 rfl (lv_at hl 2 rfl) ?_
      refine lv_iconst (v := -1) hx hb dX0_leaves_108 (by decide) ?_
      refine lv_icmp_eq (tgt := 133) hx hb dX0_leaves_109 (by decide) (fun c23 => ?_) (fun c23 => ?_)
      · have hF := if_p c23 hF
        refine lv_iconst (v := 0) hx hb dX0_leaves_133 (by decide) ?_
        cases hF
        exact m_zret X hp rfl dX0_leaves_134
      · have hF := if_n c23 hF
        refine lv_aload_n hx hb dX0_leaves_112 rfl (lv_at hl 0 rfl) ?_
        obtain ⟨v24, e25, hF⟩ := ob_s hF
        refine m_getR X hp e25 kX0 (Nat.le_of_ble_eq_true rfl) q481 dX0_leaves_113 ?_
        refine lv_iload_n hx hb dX0_leaves_116 rfl (lv_at hl 1 rfl) ?_
        obtain ⟨v26, e27, hF⟩ := ob_s hF
        refine m_iaI X hp e27 dX0_leaves_117 ?_
        refine lv_sipush (v := 144) hx hb dX0_leaves_118 (by decide) ?_
        refine lv_icmp_eq (tgt := 133) hx hb dX0_leaves_121 (by decide) (fun c28 => ?_) (fun c28 => ?_)
        · have hF := if_p c28 hF
          refine lv_iconst (v := 0) hx hb dX0_leaves_133 (by decide) ?_
          cases hF
          exact m_zret X hp rfl dX0_leaves_134
        · have hF := if_n c28 hF
          refine lv_aload_n hx hb dX0_leaves_124 rfl (lv_at hl 0 rfl) ?_
          obtain ⟨v29, e30, hF⟩ := ob_s hF
          refine m_getR X hp e30 kX0 (Nat.le_of_ble_eq_true rfl) q483 dX0_leaves_125 ?_
          refine lv_iload_n hx hb dX0_leaves_128 rfl (lv_at hl 1 rfl) ?_
          obtain ⟨v31, e32, hF⟩ := ob_s hF
          refine m_zaI X hp e32 dX0_leaves_129 ?_
          refine lv_if_eq (tgt := 135) hx hb dX0_leaves_130 (by decide) (fun c33 => ?_) (fun c33 => ?_)
          · have hF := if_p c33 hF
            refine lv_aload_n hx hb dX0_leaves_135 rfl (lv_at hl 0 rfl) ?_
            obtain ⟨v34, e35, hF⟩ := ob_s hF
            refine m_getR X hp e35 kX0 (Nat.le_of_ble_eq_true rfl) q483 dX0_leaves_136 ?_
            refine lv_iload_n hx hb dX0_leaves_139 rfl (lv_at hl 1 rfl) ?_
            refine lv_iconst (v := 1) hx hb dX0_leaves_140 (by decide) ?_
            obtain ⟨M36, e37, hF⟩ := ob_s hF
            refine m_zaW X hp e37 dX0_leaves_141 (fun H locs hp => ?_)
            refine lv_aload_n hx hb dX0_leaves_142 rfl (lv_at hl 0 rfl) ?_
            refine lv_aload_n hx hb dX0_leaves_143 rfl (lv_at hl 0 rfl) ?_
            obtain ⟨v38, e39, hF⟩ := ob_s hF
            refine m_getR X hp e39 kX0 (Nat.le_of_ble_eq_true rfl) q481 dX0_leaves_144 ?_
            refine lv_iload_n hx hb dX0_leaves_147 rfl (lv_at hl 1 rfl) ?_
            obtain ⟨v40, e41, hF⟩ := ob_s hF
            refine m_iaI X hp e41 dX0_leaves_148 ?_
            obtain ⟨⟨v43, M44⟩, e42, hF⟩ := ob_s hF
            refine m_callV (As := [.int v40]) (rest := []) X hp (hrec e42) q1367 q1369 qs56 q132 q1370 1 rfl ds_X0_leaves ⟨by show _ ≤ frr + 2; omega, by show _ ≤ lor + 46; omega⟩ 1 (T := TX0) (N := 30) rfl (by decide) (rR_s e39).1 hl.1 rfl (Nat.le_of_ble_eq_true rfl) dX0_leaves_149 ⟨Nat.le_refl 0, Nat.le_refl 0⟩ (fun H locs hp => ?_)
            refine lv_if_ne (tgt := 157) hx hb dX0_leaves_152 (by decide) (fun c45 => ?_) (fun c45 => ?_)
            · have hF := if_n c45 hF
              refine lv_aload_n hx hb dX0_leaves_157 rfl (lv_at hl 0 rfl) ?_
              obtain ⟨v46, e47, hF⟩ := ob_s hF
              refine m_getR X hp e47 kX0 (Nat.le_of_ble_eq_true rfl) q482 dX0_leaves_158 ?_
              refine lv_iload_n hx hb dX0_leaves_161 rfl (lv_at hl 1 rfl) ?_
              refine lv_iconst (v := -1) hx hb dX0_leaves_162 (by decide) ?_
              obtain ⟨M48, e49, hF⟩ := ob_s hF
              refine m_iaW X hp e49 dX0_leaves_163 (fun H locs hp => ?_)
              refine lv_aload_n hx hb dX0_leaves_164 rfl (lv_at hl 0 rfl) ?_
              obtain ⟨v50, e51, hF⟩ := ob_s hF
              refine m_getR X hp e51 kX0 (Nat.le_of_ble_eq_true rfl) q481 dX0_leaves_165 ?_
              refine lv_iload_n hx hb dX0_leaves_168 rfl (lv_at hl 1 rfl) ?_
              refine lv_iconst (v := -1) hx hb dX0_leaves_169 (by decide) ?_
              obtain ⟨M52, e53, hF⟩ := ob_s hF
              refine m_iaW X hp e53 dX0_leaves_170 (fun H locs hp => ?_)
              refine lv_iconst (v := 1) hx hb dX0_leaves_171 (by decide) ?_
              cases hF
              exact m_zret X hp rfl dX0_leaves_172
            · have hF := if_p c45 hF
              refine lv_iconst (v := 0) hx hb dX0_leaves_155 (by decide) ?_
              cases hF
              exact m_zret X hp rfl dX0_leaves_156
          · have hF := if_n c33 hF
            refine lv_iconst (v := 0) hx hb dX0_leaves_133 (by decide) ?_
            cases hF
            exact m_zret X hp rfl dX0_leaves_134
    · have hF := if_n c22 hF
      refine lv_iload_n hx hb dX0_leaves_59 rfl (lv_at hl 1 rfl) ?_
      refine lv_iload_n hx hb dX0_leaves_60 rfl (lv_at hl 3 rfl) ?_
      obtain ⟨v55, e54, hF⟩ := ob_s hF
      refine m_callS (As := [.int x1, .int x3]) (rest := []) X hp (w_X0_on e54) q1241 q1103 q132 q1104 2 rfl ds_X0_on ⟨by show _ ≤ frr + 2; omega, by show _ ≤ lor + 46; omega⟩ hl.1 rfl (Nat.le_of_ble_eq_true rfl) dX0_leaves_61 ⟨Nat.le_refl 0, Nat.le_refl 0⟩ (fun H locs hp => ?_)
      refine lv_istore (lv' := [(4, .int v55), (0, .ref x0), (1, .int x1), (2, .int x2), (3, .int x3)]) hx hb dX0_leaves_64 hl (by decide) rfl (fun ls hl => ?_)
      refine lv_iload hx hb dX0_leaves_66 (lv_at hl 0 rfl) ?_
      refine lv_iconst (v := -1) hx hb dX0_leaves_68 (by decide) ?_
      refine lv_icmp_eq (tgt := 101) hx hb dX0_leaves_69 (by decide) (fun c56 => ?_) (fun c56 => ?_)
      · have hF := if_p c56 hF
        exact b_X0_leaves_101 hrec hfl X _ ih _ _ _ _ _ _ _ _ hp (lv_sub hl [1, 2, 3, 4] rfl) hF
      · have hF := if_n c56 hF
        refine lv_iload hx hb dX0_leaves_72 (lv_at hl 0 rfl) ?_
        refine lv_iload_n hx hb dX0_leaves_74 rfl (lv_at hl 3 rfl) ?_
        refine lv_icmp_eq (tgt := 101) hx hb dX0_leaves_75 (by decide) (fun c57 => ?_) (fun c57 => ?_)
        · have hF := if_p c57 hF
          exact b_X0_leaves_101 hrec hfl X _ ih _ _ _ _ _ _ _ _ hp (lv_sub hl [1, 2, 3, 4] rfl) hF
        · have hF := if_n c57 hF
          refine lv_aload_n hx hb dX0_leaves_78 rfl (lv_at hl 1 rfl) ?_
          refine lv_iload hx hb dX0_leaves_79 (lv_at hl 0 rfl) ?_
          refine lv_iload_n hx hb dX0_leaves_81 rfl (lv_at hl 2 rfl) ?_
          obtain ⟨g58, hF⟩ := gd_s hF
          obtain ⟨⟨v60, M61⟩, e59, hF⟩ := ob_s hF
          refine m_callV (As := [.int v55, .int x1]) (rest := []) X hp (wo_X0_enters hrec hfl e59) q1363 q1365 qs55 q132 q1366 2 rfl ds_X0_enters ⟨by show _ ≤ frr + 2; omega, by show _ ≤ lor + 46; omega⟩ 1 (T := TX0) (N := 30) rfl (by decide) g58 hl.1 rfl (Nat.le_of_ble_eq_true rfl) dX0_leaves_82 ⟨Nat.le_refl 0, Nat.le_refl 0⟩ (fun H locs hp => ?_)
          refine lv_if_ne (tgt := 91) hx hb dX0_leaves_85 (by decide) (fun c62 => ?_) (fun c62 => ?_)
          · have hF := if_n c62 hF
            refine lv_aload_n hx hb dX0_leaves_91 rfl (lv_at hl 1 rfl) ?_
            obtain ⟨v63, e64, hF⟩ := ob_s hF
            refine m_getR X hp e64 kX0 (Nat.le_of_ble_eq_true rfl) q482 dX0_leaves_92 ?_
            refine lv_iload_n hx hb dX0_leaves_95 rfl (lv_at hl 2 rfl) ?_
            refine lv_iload hx hb dX0_leaves_96 (lv_at hl 0 rfl) ?_
            obtain ⟨M65, e66, hF⟩ := ob_s hF
            refine m_iaW X hp e66 dX0_leaves_98 (fun H locs hp => ?_)
            refine lv_iconst (v := 1) hx hb dX0_leaves_99 (by decide) ?_
            cases hF
            exact m_zret X hp rfl dX0_leaves_100
          · have hF := if_p c62 hF
            refine lv_goto (tgt := 101) hx hb dX0_leaves_88 (by decide) ?_
            exact b_X0_leaves_101 hrec hfl X _ ih _ _ _ _ _ _ _ _ hp (lv_sub hl [1, 2, 3, 4] rfl) hF
def fb_X0_leaves_52 (S : mSh) (rec : mMm → Nat → Int32 → Option (Int32 × mMm)) (M : mMm) (x0 : Nat) (x1 : Int32) (x2 : Int32) : Option (Int32 × mMm) := nm ((0 : Int32)) fun v20 => (fb_X0_leaves_54 S rec FU M x0 x1 x2 v20)
theorem b_X0_leaves_52 {r : Int32} {M' : mMm} {frr lor : Nat} {rec : mMm → Nat → Int32 → Option (Int32 × mMm)} (hrec : ∀ {M M' : mMm} {x0 : Nat} {x1 : Int32} {r : Int32}, rec M x0 x1 = some (r, M') → mCt l D n0 P yX0_leaves cX0_leaves 5 (some .boolean) frr lor 0 0 [.ref x0, .int x1] S M n (some (.int r)) S M' n) (hfl : 3 ≤ frr ∧ 66 ≤ lor) (X : mCx D n0 P p m c cX0_leaves 5 s args yX0_leaves.cls meth (some .boolean)) : ∀ (M : mMm) (x0 : Nat) (x1 : Int32) (x2 : Int32) (H : Heap) (locs : List Loc) (ls : Array Slot), mHp D n0 S M n s H locs → lv_has ls 5 [(0, .ref x0), (1, .int x1), (2, .int x2)] → fb_X0_leaves_52 S rec M x0 x1 x2 = some (r, M') → W p l e (Rm_X0_leaves frr lor) s m args below meth c H locs 0 0 (MQ below (mQ D n0 (some (.int r)) S M' n) args s 0 0 (mA n0)) (F0 m 52 ls []) := by
  have hx := X.1.1
  have hb := X.1.2.1
  have hown := X.1.2.2.2.1
  have hts := X.1.2.2.2.2
  intro M x0 x1 x2 H locs ls hp hl hF
  unfold fb_X0_leaves_52 at hF
  refine lv_iconst (v := 0) hx hb dX0_leaves_52 (by decide) ?_
  refine lv_topi (fun v20 ev21 => ?_)
  have hF := nm_s hF ev21
  refine lv_istore_n (lv' := [(3, .int v20), (0, .ref x0), (1, .int x1), (2, .int x2)]) hx hb dX0_leaves_53 rfl hl (by decide) rfl (fun ls hl => ?_)
  exact b_X0_leaves_54 hrec hfl X _ _ _ _ _ _ _ _ _ hp (lv_sub hl [1, 2, 3, 0] rfl) hF
def fo_X0_leaves (S : mSh) (rec : mMm → Nat → Int32 → Option (Int32 × mMm)) (M : mMm) (x0 : Nat) (x1 : Int32) : Option (Int32 × mMm) := ob (rR S M x0 1 24) fun v1 => ob (aI S M v1 102 x1) fun v3 => (if v3 = 0 then ob (rR S M x0 1 24) fun v6 => ob (wA S M v6 102 x1 (.int ((1 : Int32) &&& 1))) fun M8 => ob (rR S M8 x0 1 22) fun v10 => ob (aI S M8 v10 100 x1) fun v12 => (if (x1 / (12 : Int32)) = (11 : Int32) then (if v12 = (144 : Int32) then (fb_X0_leaves_52 S rec M8 x0 x1 v12) else ob (rR S M8 x0 1 22) fun v16 => ob (wA S M8 v16 100 x1 (.int (144 : Int32))) fun M18 => some ((1 : Int32), M18)) else (fb_X0_leaves_52 S rec M8 x0 x1 v12)) else some ((0 : Int32), M))
theorem wo_X0_leaves {x0 : Nat} {x1 : Int32} {r : Int32} {M' : mMm} {frr lor : Nat} {rec : mMm → Nat → Int32 → Option (Int32 × mMm)} (hrec : ∀ {M M' : mMm} {x0 : Nat} {x1 : Int32} {r : Int32}, rec M x0 x1 = some (r, M') → mCt l D n0 P yX0_leaves cX0_leaves 5 (some .boolean) frr lor 0 0 [.ref x0, .int x1] S M n (some (.int r)) S M' n) (hfl : 3 ≤ frr ∧ 66 ≤ lor) (hF : fo_X0_leaves S rec M x0 x1 = some (r, M')) : mCt l D n0 P yX0_leaves cX0_leaves 5 (some .boolean) (frr + 2) (lor + 46) 0 0 [.ref x0, .int x1] S M n (some (.int r)) S M' n := by
  refine m_ofW (by decide) (Nat.le_of_ble_eq_true rfl) (fun p e s m below meth c X hnm hp ls hl => ?_)
  have hx := X.1.1
  have hb := X.1.2.1
  have hown := X.1.2.2.2.1
  have hts := X.1.2.2.2.2
  have hl : lv_has ls 5 [(0, .ref x0), (1, .int x1)] := hl
  unfold fo_X0_leaves at hF
  refine lv_aload_n hx hb dX0_leaves_0 rfl (lv_at hl 0 rfl) ?_
  obtain ⟨v1, e2, hF⟩ := ob_s hF
  refine m_getR X hp e2 kX0 (Nat.le_of_ble_eq_true rfl) q484 dX0_leaves_1 ?_
  refine lv_iload_n hx hb dX0_leaves_4 rfl (lv_at hl 1 rfl) ?_
  obtain ⟨v3, e4, hF⟩ := ob_s hF
  refine m_zaI X hp e4 dX0_leaves_5 ?_
  refine lv_if_eq (tgt := 11) hx hb dX0_leaves_6 (by decide) (fun c5 => ?_) (fun c5 => ?_)
  · have hF := if_p c5 hF
    refine lv_aload_n hx hb dX0_leaves_11 rfl (lv_at hl 0 rfl) ?_
    obtain ⟨v6, e7, hF⟩ := ob_s hF
    refine m_getR X hp e7 kX0 (Nat.le_of_ble_eq_true rfl) q484 dX0_leaves_12 ?_
    refine lv_iload_n hx hb dX0_leaves_15 rfl (lv_at hl 1 rfl) ?_
    refine lv_iconst (v := 1) hx hb dX0_leaves_16 (by decide) ?_
    obtain ⟨M8, e9, hF⟩ := ob_s hF
    refine m_zaW X hp e9 dX0_leaves_17 (fun H locs hp => ?_)
    refine lv_aload_n hx hb dX0_leaves_18 rfl (lv_at hl 0 rfl) ?_
    obtain ⟨v10, e11, hF⟩ := ob_s hF
    refine m_getR X hp e11 kX0 (Nat.le_of_ble_eq_true rfl) q482 dX0_leaves_19 ?_
    refine lv_iload_n hx hb dX0_leaves_22 rfl (lv_at hl 1 rfl) ?_
    obtain ⟨v12, e13, hF⟩ := ob_s hF
    refine m_iaI X hp e13 dX0_leaves_23 ?_
    refine lv_istore_n (lv' := [(2, .int v12), (0, .ref x0), (1, .int x1)]) hx hb dX0_leaves_24 rfl hl (by decide) rfl (fun ls hl => ?_)
    refine lv_iload_n hx hb dX0_leaves_25 rfl (lv_at hl 2 rfl) ?_
    refine lv_bipush (v := 12) hx hb dX0_leaves_26 (by decide) ?_
    refine lv_idiv hx hb dX0_leaves_28 (by decide) ?_
    refine lv_bipush (v := 11) hx hb dX0_leaves_29 (by decide) ?_
    refine lv_icmp_ne (tgt := 52) hx hb dX0_leaves_31 (by decide) (fun c14 => ?_) (fun c14 => ?_)
    · have hF := if_n c14 hF
      exact b_X0_leaves_52 hrec hfl X _ _ _ _ _ _ _ hp (lv_sub hl [1, 2, 0] rfl) hF
    · have hF := if_p c14 hF
      refine lv_iload_n hx hb dX0_leaves_34 rfl (lv_at hl 0 rfl) ?_
      refine lv_sipush (v := 144) hx hb dX0_leaves_35 (by decide) ?_
      refine lv_icmp_eq (tgt := 52) hx hb dX0_leaves_38 (by decide) (fun c15 => ?_) (fun c15 => ?_)
      · have hF := if_p c15 hF
        exact b_X0_leaves_52 hrec hfl X _ _ _ _ _ _ _ hp (lv_sub hl [1, 2, 0] rfl) hF
      · have hF := if_n c15 hF
        refine lv_aload_n hx hb dX0_leaves_41 rfl (lv_at hl 1 rfl) ?_
        obtain ⟨v16, e17, hF⟩ := ob_s hF
        refine m_getR X hp e17 kX0 (Nat.le_of_ble_eq_true rfl) q482 dX0_leaves_42 ?_
        refine lv_iload_n hx hb dX0_leaves_45 rfl (lv_at hl 2 rfl) ?_
        refine lv_sipush (v := 144) hx hb dX0_leaves_46 (by decide) ?_
        obtain ⟨M18, e19, hF⟩ := ob_s hF
        refine m_iaW X hp e19 dX0_leaves_49 (fun H locs hp => ?_)
        refine lv_iconst (v := 1) hx hb dX0_leaves_50 (by decide) ?_
        cases hF
        exact m_zret X hp rfl dX0_leaves_51
  · have hF := if_n c5 hF
    refine lv_iconst (v := 0) hx hb dX0_leaves_9 (by decide) ?_
    cases hF
    exact m_zret X hp rfl dX0_leaves_10
end
def fd_X0_leaves (S : mSh) : Nat → mMm → Nat → Int32 → Option (Int32 × mMm)
  | 0, _, _, _ => none
  | d + 1, M, x0, x1 => fo_X0_leaves S (fd_X0_leaves S d) M x0 x1
theorem wd_X0_leaves {l : Launch} {D : va_G} {n0 : Nat} {P : mP} {S : mSh} {n : Nat} : ∀ (d : Nat) {M M' : mMm} {x0 : Nat} {x1 : Int32} {r : Int32}, fd_X0_leaves S d M x0 x1 = some (r, M') → mCt l D n0 P yX0_leaves cX0_leaves 5 (some .boolean) (2 * d + 3) (46 * d + 66) 0 0 [.ref x0, .int x1] S M n (some (.int r)) S M' n
  | 0, _, _, _, _, _, h => by
    have h : none = some _ := h
    cases h
  | d + 1, _, _, _, _, _, h => by
    rw [fd_X0_leaves] at h
    rw [show 2 * (d + 1) + 3 = 2 * d + 3 + 2 by omega, show 46 * (d + 1) + 66 = 46 * d + 66 + 46 by omega]
    exact wo_X0_leaves (fun h => wd_X0_leaves d h) ⟨Nat.le_add_left _ _, Nat.le_add_left _ _⟩ h
def f_X0_leaves (S : mSh) (M : mMm) (x0 : Nat) (x1 : Int32) : Option (Int32 × mMm) := fd_X0_leaves S 300 M x0 x1
theorem w_X0_leaves {l : Launch} {D : va_G} {n0 : Nat} {P : mP} {S : mSh} {n : Nat} {M M' : mMm} {x0 : Nat} {x1 : Int32} {r : Int32} (h : f_X0_leaves S M x0 x1 = some (r, M')) : mCt l D n0 P yX0_leaves cX0_leaves 5 (some .boolean) 603 13866 0 0 [.ref x0, .int x1] S M n (some (.int r)) S M' n := wd_X0_leaves 300 h
def f_X0_enters (S : mSh) (M : mMm) (x0 : Nat) (x1 : Int32) (x2 : Int32) : Option (Int32 × mMm) := fo_X0_enters S (fd_X0_leaves S 300) M x0 x1 x2
theorem w_X0_enters {l : Launch} {D : va_G} {n0 : Nat} {P : mP} {S : mSh} {n : Nat} {M M' : mMm} {x0 : Nat} {x1 : Int32} {x2 : Int32} {r : Int32} (h : f_X0_enters S M x0 x1 x2 = some (r, M')) : mCt l D n0 P yX0_enters cX0_enters 3 (some .boolean) 604 13890 0 0 [.ref x0, .int x1, .int x2] S M n (some (.int r)) S M' n := wo_X0_enters (fun h => wd_X0_leaves 300 h) ⟨by decide, by decide⟩ h
section
variable {l : Launch} {D : va_G} {n0 : Nat} {P : mP} {S : mSh} {M : mMm} {n : Nat} {p : Program} {e : Env} {s : State} {m : MethodId} {args : Array Value} {below : List Frame} {meth : Method} {c : Code}
abbrev Rm_X0_hasOneMore : Room := { frames := 605, cells := 0, slots := 0, locals := 13912 }
def fb_X0_hasOneMore_62 (S : mSh) (k31 : mMm → Nat → Int32 → Option (Int32 × mMm)) (M : mMm) (x0 : Nat) (x1 : Int32) : Option (Int32 × mMm) := nm (x1 + (1 : Int32)) fun v26 => (k31 M x0 v26)
theorem b_X0_hasOneMore_62 {r : Int32} {M' : mMm} (X : mCx D n0 P p m c cX0_hasOneMore 2 s args yX0_hasOneMore.cls meth (some .boolean)) (k31 : mMm → Nat → Int32 → Option (Int32 × mMm)) (hk31 : ∀ (M : mMm) (x0 : Nat) (x1 : Int32) (H : Heap) (locs : List Loc) (ls : Array Slot), mHp D n0 S M n s H locs → lv_has ls 2 [(0, .ref x0), (1, .int x1)] → k31 M x0 x1 = some (r, M') → W p l e Rm_X0_hasOneMore s m args below meth c H locs 0 0 (MQ below (mQ D n0 (some (.int r)) S M' n) args s 0 0 (mA n0)) (F0 m 31 ls [])) : ∀ (M : mMm) (x0 : Nat) (x1 : Int32) (H : Heap) (locs : List Loc) (ls : Array Slot), mHp D n0 S M n s H locs → lv_has ls 2 [(0, .ref x0), (1, .int x1)] → fb_X0_hasOneMore_62 S k31 M x0 x1 = some (r, M') → W p l e Rm_X0_hasOneMore s m args below meth c H locs 0 0 (MQ below (mQ D n0 (some (.int r)) S M' n) args s 0 0 (mA n0)) (F0 m 62 ls []) := by
  have hx := X.1.1
  have hb := X.1.2.1
  have hown := X.1.2.2.2.1
  have hts := X.1.2.2.2.2
  intro M x0 x1 H locs ls hp hl hF
  unfold fb_X0_hasOneMore_62 at hF
  obtain ⟨v26, ev27⟩ : ∃ y : Int32, y = x1 + (1 : Int32) := ⟨_, rfl⟩
  have hF := nm_s hF ev27
  refine lv_iinc (v := v26) (lv' := [(1, .int v26), (0, .ref x0)]) hx hb dX0_hasOneMore_62 hl (k := 1) rfl (by rw [ev27]; rfl) (by decide) rfl (fun ls hl => ?_)
  refine lv_goto (tgt := 31) hx hb dX0_hasOneMore_65 (by decide) ?_
  exact hk31 _ _ _ _ _ _ hp (lv_sub hl [1, 0] rfl) hF
def fb_X0_hasOneMore_31 (S : mSh) : Nat → mMm → Nat → Int32 → Option (Int32 × mMm)
  | 0, _, _, _ => none
  | t + 1, M, x0, x1 => (if (12 : Int32) ≤ x1 then some ((0 : Int32), M) else ob (rR S M x0 1 21) fun v17 => ob (aI S M v17 100 x1) fun v19 => (if v19 = (144 : Int32) then (fb_X0_hasOneMore_62 S (fb_X0_hasOneMore_31 S t) M x0 x1) else ob (f_X0_enters S M x0 x1 (144 : Int32)) fun ⟨v23, M24⟩ => (if v23 = 0 then (fb_X0_hasOneMore_62 S (fb_X0_hasOneMore_31 S t) M24 x0 x1) else some ((1 : Int32), M24))))
theorem b_X0_hasOneMore_31 {r : Int32} {M' : mMm} (X : mCx D n0 P p m c cX0_hasOneMore 2 s args yX0_hasOneMore.cls meth (some .boolean)) : ∀ t : Nat, ∀ (M : mMm) (x0 : Nat) (x1 : Int32) (H : Heap) (locs : List Loc) (ls : Array Slot), mHp D n0 S M n s H locs → lv_has ls 2 [(0, .ref x0), (1, .int x1)] → fb_X0_hasOneMore_31 S t M x0 x1 = some (r, M') → W p l e Rm_X0_hasOneMore s m args below meth c H locs 0 0 (MQ below (mQ D n0 (some (.int r)) S M' n) args s 0 0 (mA n0)) (F0 m 31 ls []) := by
  have hx := X.1.1
  have hb := X.1.2.1
  have hown := X.1.2.2.2.1
  have hts := X.1.2.2.2.2
  intro t
  induction t with
  | zero =>
    intro M x0 x1 H locs ls hp hl hF
    have hF : none = some (r, M') := hF
    cases hF
  | succ t ih =>
    intro M x0 x1 H locs ls hp hl hF
    rw [fb_X0_hasOneMore_31] at hF
    refine lv_iload_n hx hb dX0_hasOneMore_31 rfl (lv_at hl 1 rfl) ?_
    refine lv_bipush (v := 12) hx hb dX0_hasOneMore_32 (by decide) ?_
    refine lv_icmp_ge (tgt := 68) hx hb dX0_hasOneMore_34 (by decide) (fun c16 => ?_) (fun c16 => ?_)
    · have hF := if_p c16 hF
      refine lv_iconst (v := 0) hx hb dX0_hasOneMore_68 (by decide) ?_
      cases hF
      exact m_zret X hp rfl dX0_hasOneMore_69
    · have hF := if_n c16 hF
      refine lv_aload_n hx hb dX0_hasOneMore_37 rfl (lv_at hl 0 rfl) ?_
      obtain ⟨v17, e18, hF⟩ := ob_s hF
      refine m_getR X hp e18 kX0 (Nat.le_of_ble_eq_true rfl) q481 dX0_hasOneMore_38 ?_
      refine lv_iload_n hx hb dX0_hasOneMore_41 rfl (lv_at hl 1 rfl) ?_
      obtain ⟨v19, e20, hF⟩ := ob_s hF
      refine m_iaI X hp e20 dX0_hasOneMore_42 ?_
      refine lv_sipush (v := 144) hx hb dX0_hasOneMore_43 (by decide) ?_
      refine lv_icmp_eq (tgt := 62) hx hb dX0_hasOneMore_46 (by decide) (fun c21 => ?_) (fun c21 => ?_)
      · have hF := if_p c21 hF
        exact b_X0_hasOneMore_62 X _ ih _ _ _ _ _ _ hp (lv_sub hl [0, 1] rfl) hF
      · have hF := if_n c21 hF
        refine lv_aload_n hx hb dX0_hasOneMore_49 rfl (lv_at hl 0 rfl) ?_
        refine lv_iload_n hx hb dX0_hasOneMore_50 rfl (lv_at hl 1 rfl) ?_
        refine lv_sipush (v := 144) hx hb dX0_hasOneMore_51 (by decide) ?_
        obtain ⟨⟨v23, M24⟩, e22, hF⟩ := ob_s hF
        refine m_callV (As := [.int x1, .int (144 : Int32)]) (rest := []) X hp (w_X0_enters e22) q1363 q1365 qs55 q132 q1366 2 rfl ds_X0_enters ⟨Nat.le_of_ble_eq_true rfl, Nat.le_of_ble_eq_true rfl⟩ 1 (T := TX0) (N := 30) rfl (by decide) (rR_s e18).1 hl.1 rfl (Nat.le_of_ble_eq_true rfl) dX0_hasOneMore_54 ⟨Nat.le_refl 0, Nat.le_refl 0⟩ (fun H locs hp => ?_)
        refine lv_if_eq (tgt := 62) hx hb dX0_hasOneMore_57 (by decide) (fun c25 => ?_) (fun c25 => ?_)
        · have hF := if_p c25 hF
          exact b_X0_hasOneMore_62 X _ ih _ _ _ _ _ _ hp (lv_sub hl [0, 1] rfl) hF
        · have hF := if_n c25 hF
          refine lv_iconst (v := 1) hx hb dX0_hasOneMore_60 (by decide) ?_
          cases hF
          exact m_zret X hp rfl dX0_hasOneMore_61
def fb_X0_hasOneMore_2 (S : mSh) : Nat → mMm → Nat → Int32 → Option (Int32 × mMm)
  | 0, _, _, _ => none
  | t + 1, M, x0, x1 => (if (144 : Int32) ≤ x1 then nm ((0 : Int32)) fun v4 => (fb_X0_hasOneMore_31 S FU M x0 v4) else ob (rR S M x0 1 23) fun v6 => ob (wA S M v6 102 x1 (.int ((0 : Int32) &&& 1))) fun M8 => ob (rR S M8 x0 1 24) fun v10 => ob (wA S M8 v10 102 x1 (.int ((0 : Int32) &&& 1))) fun M12 => nm (x1 + (1 : Int32)) fun v14 => (fb_X0_hasOneMore_2 S t M12 x0 v14))
theorem b_X0_hasOneMore_2 {r : Int32} {M' : mMm} (X : mCx D n0 P p m c cX0_hasOneMore 2 s args yX0_hasOneMore.cls meth (some .boolean)) : ∀ t : Nat, ∀ (M : mMm) (x0 : Nat) (x1 : Int32) (H : Heap) (locs : List Loc) (ls : Array Slot), mHp D n0 S M n s H locs → lv_has ls 2 [(0, .ref x0), (1, .int x1)] → fb_X0_hasOneMore_2 S t M x0 x1 = some (r, M') → W p l e Rm_X0_hasOneMore s m args below meth c H locs 0 0 (MQ below (mQ D n0 (some (.int r)) S M' n) args s 0 0 (mA n0)) (F0 m 2 ls []) := by
  have hx := X.1.1
  have hb := X.1.2.1
  have hown := X.1.2.2.2.1
  have hts := X.1.2.2.2.2
  intro t
  induction t with
  | zero =>
    intro M x0 x1 H locs ls hp hl hF
    have hF : none = some (r, M') := hF
    cases hF
  | succ t ih =>
    intro M x0 x1 H locs ls hp hl hF
    rw [fb_X0_hasOneMore_2] at hF
    refine lv_iload_n hx hb dX0_hasOneMore_2 rfl (lv_at hl 1 rfl) ?_
    refine lv_sipush (v := 144) hx hb dX0_hasOneMore_3 (by decide) ?_
    refine lv_icmp_ge (tgt := 29) hx hb dX0_hasOneMore_6 (by decide) (fun c3 => ?_) (fun c3 => ?_)
    · have hF := if_p c3 hF
      refine lv_iconst (v := 0) hx hb dX0_hasOneMore_29 (by decide) ?_
      refine lv_topi (fun v4 ev5 => ?_)
      have hF := nm_s hF ev5
      refine lv_istore_n (lv' := [(1, .int v4), (0, .ref x0)]) hx hb dX0_hasOneMore_30 rfl hl (by decide) rfl (fun ls hl => ?_)
      exact b_X0_hasOneMore_31 X _ _ _ _ _ _ _ hp (lv_sub hl [1, 0] rfl) hF
    · have hF := if_n c3 hF
      refine lv_aload_n hx hb dX0_hasOneMore_9 rfl (lv_at hl 0 rfl) ?_
      obtain ⟨v6, e7, hF⟩ := ob_s hF
      refine m_getR X hp e7 kX0 (Nat.le_of_ble_eq_true rfl) q483 dX0_hasOneMore_10 ?_
      refine lv_iload_n hx hb dX0_hasOneMore_13 rfl (lv_at hl 1 rfl) ?_
      refine lv_iconst (v := 0) hx hb dX0_hasOneMore_14 (by decide) ?_
      obtain ⟨M8, e9, hF⟩ := ob_s hF
      refine m_zaW X hp e9 dX0_hasOneMore_15 (fun H locs hp => ?_)
      refine lv_aload_n hx hb dX0_hasOneMore_16 rfl (lv_at hl 0 rfl) ?_
      obtain ⟨v10, e11, hF⟩ := ob_s hF
      refine m_getR X hp e11 kX0 (Nat.le_of_ble_eq_true rfl) q484 dX0_hasOneMore_17 ?_
      refine lv_iload_n hx hb dX0_hasOneMore_20 rfl (lv_at hl 1 rfl) ?_
      refine lv_iconst (v := 0) hx hb dX0_hasOneMore_21 (by decide) ?_
      obtain ⟨M12, e13, hF⟩ := ob_s hF
      refine m_zaW X hp e13 dX0_hasOneMore_22 (fun H locs hp => ?_)
      obtain ⟨v14, ev15⟩ : ∃ y : Int32, y = x1 + (1 : Int32) := ⟨_, rfl⟩
      have hF := nm_s hF ev15
      refine lv_iinc (v := v14) (lv' := [(1, .int v14), (0, .ref x0)]) hx hb dX0_hasOneMore_23 hl (k := 1) rfl (by rw [ev15]; rfl) (by decide) rfl (fun ls hl => ?_)
      refine lv_goto (tgt := 2) hx hb dX0_hasOneMore_26 (by decide) ?_
      exact ih _ _ _ _ _ _ hp (lv_sub hl [1, 0] rfl) hF
def f_X0_hasOneMore (S : mSh) (M : mMm) (x0 : Nat) : Option (Int32 × mMm) := nm ((0 : Int32)) fun v1 => (fb_X0_hasOneMore_2 S FU M x0 v1)
theorem w_X0_hasOneMore {x0 : Nat} {r : Int32} {M' : mMm} (hF : f_X0_hasOneMore S M x0 = some (r, M')) : mCt l D n0 P yX0_hasOneMore cX0_hasOneMore 2 (some .boolean) 605 13912 0 0 [.ref x0] S M n (some (.int r)) S M' n := by
  refine m_ofW (by decide) (Nat.le_of_ble_eq_true rfl) (fun p e s m below meth c X hnm hp ls hl => ?_)
  have hx := X.1.1
  have hb := X.1.2.1
  have hown := X.1.2.2.2.1
  have hts := X.1.2.2.2.2
  have hl : lv_has ls 2 [(0, .ref x0)] := hl
  unfold f_X0_hasOneMore at hF
  refine lv_iconst (v := 0) hx hb dX0_hasOneMore_0 (by decide) ?_
  refine lv_topi (fun v1 ev2 => ?_)
  have hF := nm_s hF ev2
  refine lv_istore_n (lv' := [(1, .int v1), (0, .ref x0)]) hx hb dX0_hasOneMore_1 rfl hl (by decide) rfl (fun ls hl => ?_)
  exact b_X0_hasOneMore_2 X _ _ _ _ _ _ _ hp (lv_sub hl [1, 0] rfl) hF
end
section
variable {l : Launch} {D : va_G} {n0 : Nat} {P : mP} {S : mSh} {M : mMm} {n : Nat} {p : Program} {e : Env} {s : State} {m : MethodId} {args : Array Value} {below : List Frame} {meth : Method} {c : Code}
abbrev Rm_X0_mostApart : Room := { frames := 606, cells := 0, slots := 0, locals := 13933 }
def fb_X0_mostApart_31 (S : mSh) : Nat → mMm → Nat → Int32 → Option (Int32 × mMm)
  | 0, _, _, _ => none
  | t + 1, M, x0, x1 => gd ((S x0).1 = 1) (ob (f_X0_hasOneMore S M x0) fun ⟨v18, M19⟩ => (if v18 = 0 then some (x1, M19) else nm (x1 + (1 : Int32)) fun v21 => (fb_X0_mostApart_31 S t M19 x0 v21)))
theorem b_X0_mostApart_31 {r : Int32} {M' : mMm} (X : mCx D n0 P p m c cX0_mostApart 2 s args yX0_mostApart.cls meth (some .int)) : ∀ t : Nat, ∀ (M : mMm) (x0 : Nat) (x1 : Int32) (H : Heap) (locs : List Loc) (ls : Array Slot), mHp D n0 S M n s H locs → lv_has ls 2 [(0, .ref x0), (1, .int x1)] → fb_X0_mostApart_31 S t M x0 x1 = some (r, M') → W p l e Rm_X0_mostApart s m args below meth c H locs 0 0 (MQ below (mQ D n0 (some (.int r)) S M' n) args s 0 0 (mA n0)) (F0 m 31 ls []) := by
  have hx := X.1.1
  have hb := X.1.2.1
  have hown := X.1.2.2.2.1
  have hts := X.1.2.2.2.2
  intro t
  induction t with
  | zero =>
    intro M x0 x1 H locs ls hp hl hF
    have hF : none = some (r, M') := hF
    cases hF
  | succ t ih =>
    intro M x0 x1 H locs ls hp hl hF
    rw [fb_X0_mostApart_31] at hF
    refine lv_aload_n hx hb dX0_mostApart_31 rfl (lv_at hl 0 rfl) ?_
    obtain ⟨g16, hF⟩ := gd_s hF
    obtain ⟨⟨v18, M19⟩, e17, hF⟩ := ob_s hF
    refine m_callV (As := []) (rest := []) X hp (w_X0_hasOneMore e17) q1359 q1361 qs54 q132 q1362 0 rfl ds_X0_hasOneMore ⟨Nat.le_of_ble_eq_true rfl, Nat.le_of_ble_eq_true rfl⟩ 1 (T := TX0) (N := 30) rfl (by decide) g16 hl.1 rfl (Nat.le_of_ble_eq_true rfl) dX0_mostApart_32 ⟨Nat.le_refl 0, Nat.le_refl 0⟩ (fun H locs hp => ?_)
    refine lv_if_eq (tgt := 44) hx hb dX0_mostApart_35 (by decide) (fun c20 => ?_) (fun c20 => ?_)
    · have hF := if_p c20 hF
      refine lv_iload_n hx hb dX0_mostApart_44 rfl (lv_at hl 1 rfl) ?_
      cases hF
      exact m_iret X hp dX0_mostApart_45
    · have hF := if_n c20 hF
      obtain ⟨v21, ev22⟩ : ∃ y : Int32, y = x1 + (1 : Int32) := ⟨_, rfl⟩
      have hF := nm_s hF ev22
      refine lv_iinc (v := v21) (lv' := [(1, .int v21), (0, .ref x0)]) hx hb dX0_mostApart_38 hl (k := 1) rfl (by rw [ev22]; rfl) (by decide) rfl (fun ls hl => ?_)
      refine lv_goto (tgt := 31) hx hb dX0_mostApart_41 (by decide) ?_
      exact ih _ _ _ _ _ _ hp (lv_sub hl [1, 0] rfl) hF
def fb_X0_mostApart_2 (S : mSh) : Nat → mMm → Nat → Int32 → Option (Int32 × mMm)
  | 0, _, _, _ => none
  | t + 1, M, x0, x1 => (if (144 : Int32) ≤ x1 then nm ((0 : Int32)) fun v4 => (fb_X0_mostApart_31 S FU M x0 v4) else ob (rR S M x0 1 21) fun v6 => ob (wA S M v6 100 x1 (.int (-1 : Int32))) fun M8 => ob (rR S M8 x0 1 22) fun v10 => ob (wA S M8 v10 100 x1 (.int (-1 : Int32))) fun M12 => nm (x1 + (1 : Int32)) fun v14 => (fb_X0_mostApart_2 S t M12 x0 v14))
theorem b_X0_mostApart_2 {r : Int32} {M' : mMm} (X : mCx D n0 P p m c cX0_mostApart 2 s args yX0_mostApart.cls meth (some .int)) : ∀ t : Nat, ∀ (M : mMm) (x0 : Nat) (x1 : Int32) (H : Heap) (locs : List Loc) (ls : Array Slot), mHp D n0 S M n s H locs → lv_has ls 2 [(0, .ref x0), (1, .int x1)] → fb_X0_mostApart_2 S t M x0 x1 = some (r, M') → W p l e Rm_X0_mostApart s m args below meth c H locs 0 0 (MQ below (mQ D n0 (some (.int r)) S M' n) args s 0 0 (mA n0)) (F0 m 2 ls []) := by
  have hx := X.1.1
  have hb := X.1.2.1
  have hown := X.1.2.2.2.1
  have hts := X.1.2.2.2.2
  intro t
  induction t with
  | zero =>
    intro M x0 x1 H locs ls hp hl hF
    have hF : none = some (r, M') := hF
    cases hF
  | succ t ih =>
    intro M x0 x1 H locs ls hp hl hF
    rw [fb_X0_mostApart_2] at hF
    refine lv_iload_n hx hb dX0_mostApart_2 rfl (lv_at hl 1 rfl) ?_
    refine lv_sipush (v := 144) hx hb dX0_mostApart_3 (by decide) ?_
    refine lv_icmp_ge (tgt := 29) hx hb dX0_mostApart_6 (by decide) (fun c3 => ?_) (fun c3 => ?_)
    · have hF := if_p c3 hF
      refine lv_iconst (v := 0) hx hb dX0_mostApart_29 (by decide) ?_
      refine lv_topi (fun v4 ev5 => ?_)
      have hF := nm_s hF ev5
      refine lv_istore_n (lv' := [(1, .int v4), (0, .ref x0)]) hx hb dX0_mostApart_30 rfl hl (by decide) rfl (fun ls hl => ?_)
      exact b_X0_mostApart_31 X _ _ _ _ _ _ _ hp (lv_sub hl [1, 0] rfl) hF
    · have hF := if_n c3 hF
      refine lv_aload_n hx hb dX0_mostApart_9 rfl (lv_at hl 0 rfl) ?_
      obtain ⟨v6, e7, hF⟩ := ob_s hF
      refine m_getR X hp e7 kX0 (Nat.le_of_ble_eq_true rfl) q481 dX0_mostApart_10 ?_
      refine lv_iload_n hx hb dX0_mostApart_13 rfl (lv_at hl 1 rfl) ?_
      refine lv_iconst (v := -1) hx hb dX0_mostApart_14 (by decide) ?_
      obtain ⟨M8, e9, hF⟩ := ob_s hF
      refine m_iaW X hp e9 dX0_mostApart_15 (fun H locs hp => ?_)
      refine lv_aload_n hx hb dX0_mostApart_16 rfl (lv_at hl 0 rfl) ?_
      obtain ⟨v10, e11, hF⟩ := ob_s hF
      refine m_getR X hp e11 kX0 (Nat.le_of_ble_eq_true rfl) q482 dX0_mostApart_17 ?_
      refine lv_iload_n hx hb dX0_mostApart_20 rfl (lv_at hl 1 rfl) ?_
      refine lv_iconst (v := -1) hx hb dX0_mostApart_21 (by decide) ?_
      obtain ⟨M12, e13, hF⟩ := ob_s hF
      refine m_iaW X hp e13 dX0_mostApart_22 (fun H locs hp => ?_)
      obtain ⟨v14, ev15⟩ : ∃ y : Int32, y = x1 + (1 : Int32) := ⟨_, rfl⟩
      have hF := nm_s hF ev15
      refine lv_iinc (v := v14) (lv' := [(1, .int v14), (0, .ref x0)]) hx hb dX0_mostApart_23 hl (k := 1) rfl (by rw [ev15]; rfl) (by decide) rfl (fun ls hl => ?_)
      refine lv_goto (tgt := 2) hx hb dX0_mostApart_26 (by decide) ?_
      exact ih _ _ _ _ _ _ hp (lv_sub hl [1, 0] rfl) hF
def f_X0_mostApart (S : mSh) (M : mMm) (x0 : Nat) : Option (Int32 × mMm) := nm ((0 : Int32)) fun v1 => (fb_X0_mostApart_2 S FU M x0 v1)
theorem w_X0_mostApart {x0 : Nat} {r : Int32} {M' : mMm} (hF : f_X0_mostApart S M x0 = some (r, M')) : mCt l D n0 P yX0_mostApart cX0_mostApart 2 (some .int) 606 13933 0 0 [.ref x0] S M n (some (.int r)) S M' n := by
  refine m_ofW (by decide) (Nat.le_of_ble_eq_true rfl) (fun p e s m below meth c X hnm hp ls hl => ?_)
  have hx := X.1.1
  have hb := X.1.2.1
  have hown := X.1.2.2.2.1
  have hts := X.1.2.2.2.2
  have hl : lv_has ls 2 [(0, .ref x0)] := hl
  unfold f_X0_mostApart at hF
  refine lv_iconst (v := 0) hx hb dX0_mostApart_0 (by decide) ?_
  refine lv_topi (fun v1 ev2 => ?_)
  have hF := nm_s hF ev2
  refine lv_istore_n (lv' := [(1, .int v1), (0, .ref x0)]) hx hb dX0_mostApart_1 rfl hl (by decide) rfl (fun ls hl => ?_)
  exact b_X0_mostApart_2 X _ _ _ _ _ _ _ hp (lv_sub hl [1, 0] rfl) hF
end
section
variable {l : Launch} {D : va_G} {n0 : Nat} {P : mP} {S : mSh} {M : mMm} {n : Nat} {p : Program} {e : Env} {s : State} {m : MethodId} {args : Array Value} {below : List Frame} {meth : Method} {c : Code}
abbrev Rm_X0_costOf : Room := { frames := 0, cells := 0, slots := 0, locals := 0 }
def f_X0_costOf (S : mSh) (M : mMm) (x0 : Nat) (x1 : Int32) : Option Int32 := ob (rR S M x0 1 4) fun v1 => ob (rR S M v1 2 0) fun v3 => ob (aI S M v3 100 x1) fun v5 => (if v5 = (1 : Int32) then some (0 : Int32) else some (1 : Int32))
theorem w_X0_costOf {x0 : Nat} {x1 : Int32} {r : Int32} (hF : f_X0_costOf S M x0 x1 = some r) : mCt l D n0 P yX0_costOf cX0_costOf 2 (some .int) 0 0 0 0 [.ref x0, .int x1] S M n (some (.int r)) S M n := by
  refine m_ofW (by decide) (Nat.le_of_ble_eq_true rfl) (fun p e s m below meth c X hnm hp ls hl => ?_)
  have hx := X.1.1
  have hb := X.1.2.1
  have hown := X.1.2.2.2.1
  have hts := X.1.2.2.2.2
  have hl : lv_has ls 2 [(0, .ref x0), (1, .int x1)] := hl
  unfold f_X0_costOf at hF
  refine lv_aload_n hx hb dX0_costOf_0 rfl (lv_at hl 0 rfl) ?_
  obtain ⟨v1, e2, hF⟩ := ob_s hF
  refine m_getR X hp e2 kX0 (Nat.le_of_ble_eq_true rfl) q463 dX0_costOf_1 ?_
  obtain ⟨v3, e4, hF⟩ := ob_s hF
  refine m_getRN X hp e4 kX1 (Nat.le_of_ble_eq_true rfl) q376 dX0_costOf_4 ?_
  refine lv_iload_n hx hb dX0_costOf_7 rfl (lv_at hl 1 rfl) ?_
  obtain ⟨v5, e6, hF⟩ := ob_s hF
  refine m_iaI X hp e6 dX0_costOf_8 ?_
  refine lv_iconst (v := 1) hx hb dX0_costOf_9 (by decide) ?_
  refine lv_icmp_ne (tgt := 17) hx hb dX0_costOf_10 (by decide) (fun c7 => ?_) (fun c7 => ?_)
  · have hF := if_n c7 hF
    refine lv_iconst (v := 1) hx hb dX0_costOf_17 (by decide) ?_
    cases hF
    exact m_iret X hp dX0_costOf_18
  · have hF := if_p c7 hF
    refine lv_iconst (v := 0) hx hb dX0_costOf_13 (by decide) ?_
    refine lv_goto (tgt := 18) hx hb dX0_costOf_14 (by decide) ?_
    cases hF
    exact m_iret X hp dX0_costOf_18
end
section
variable {l : Launch} {D : va_G} {n0 : Nat} {P : mP} {S : mSh} {M : mMm} {n : Nat} {p : Program} {e : Env} {s : State} {m : MethodId} {args : Array Value} {below : List Frame} {meth : Method} {c : Code}
abbrev Rm_X0_fewestStones : Room := { frames := 2, cells := 0, slots := 0, locals := 43 }
def fb_X0_fewestStones_32 (S : mSh) (k2 : mMm → Nat → Int32 → Option (Int32 × mMm)) (M : mMm) (x0 : Nat) (x1 : Int32) (y0 : Int32) (y1 : Int32) (y2 : Nat) : Option (Int32 × mMm) := ob (wA S M y2 100 y1 (.int y0)) fun M11 => nm (x1 + (1 : Int32)) fun v13 => (k2 M11 x0 v13)
theorem b_X0_fewestStones_32 {r : Int32} {M' : mMm} (X : mCx D n0 P p m c cX0_fewestStones 6 s args yX0_fewestStones.cls meth (some .int)) (k2 : mMm → Nat → Int32 → Option (Int32 × mMm)) (hk2 : ∀ (M : mMm) (x0 : Nat) (x1 : Int32) (H : Heap) (locs : List Loc) (ls : Array Slot), mHp D n0 S M n s H locs → lv_has ls 6 [(0, .ref x0), (1, .int x1)] → k2 M x0 x1 = some (r, M') → W p l e Rm_X0_fewestStones s m args below meth c H locs 0 0 (MQ below (mQ D n0 (some (.int r)) S M' n) args s 0 0 (mA n0)) (F0 m 2 ls [])) : ∀ (M : mMm) (x0 : Nat) (x1 : Int32) (y0 : Int32) (y1 : Int32) (y2 : Nat) (H : Heap) (locs : List Loc) (ls : Array Slot), mHp D n0 S M n s H locs → lv_has ls 6 [(0, .ref x0), (1, .int x1)] → fb_X0_fewestStones_32 S k2 M x0 x1 y0 y1 y2 = some (r, M') → W p l e Rm_X0_fewestStones s m args below meth c H locs 0 0 (MQ below (mQ D n0 (some (.int r)) S M' n) args s 0 0 (mA n0)) (F0 m 32 ls [.int y0, .int y1, .ref y2]) := by
  have hx := X.1.1
  have hb := X.1.2.1
  have hown := X.1.2.2.2.1
  have hts := X.1.2.2.2.2
  intro M x0 x1 y0 y1 y2 H locs ls hp hl hF
  unfold fb_X0_fewestStones_32 at hF
  obtain ⟨M11, e12, hF⟩ := ob_s hF
  refine m_iaW X hp e12 dX0_fewestStones_32 (fun H locs hp => ?_)
  obtain ⟨v13, ev14⟩ : ∃ y : Int32, y = x1 + (1 : Int32) := ⟨_, rfl⟩
  have hF := nm_s hF ev14
  refine lv_iinc (v := v13) (lv' := [(1, .int v13), (0, .ref x0)]) hx hb dX0_fewestStones_33 hl (k := 1) rfl (by rw [ev14]; rfl) (by decide) rfl (fun ls hl => ?_)
  refine lv_goto (tgt := 2) hx hb dX0_fewestStones_36 (by decide) ?_
  exact hk2 _ _ _ _ _ _ hp (lv_sub hl [1, 0] rfl) hF
def fb_X0_fewestStones_156 (S : mSh) (k58 : mMm → Nat → Int32 → Int32 → Int32 → Option (Int32 × mMm)) (M : mMm) (x0 : Nat) (x1 : Int32) (x2 : Int32) (x3 : Int32) : Option (Int32 × mMm) := nm (x3 + (1 : Int32)) fun v60 => (k58 M x0 x1 x2 v60)
theorem b_X0_fewestStones_156 {r : Int32} {M' : mMm} (X : mCx D n0 P p m c cX0_fewestStones 6 s args yX0_fewestStones.cls meth (some .int)) (k58 : mMm → Nat → Int32 → Int32 → Int32 → Option (Int32 × mMm)) (hk58 : ∀ (M : mMm) (x0 : Nat) (x1 : Int32) (x2 : Int32) (x3 : Int32) (H : Heap) (locs : List Loc) (ls : Array Slot), mHp D n0 S M n s H locs → lv_has ls 6 [(0, .ref x0), (1, .int x1), (2, .int x2), (3, .int x3)] → k58 M x0 x1 x2 x3 = some (r, M') → W p l e Rm_X0_fewestStones s m args below meth c H locs 0 0 (MQ below (mQ D n0 (some (.int r)) S M' n) args s 0 0 (mA n0)) (F0 m 58 ls [])) : ∀ (M : mMm) (x0 : Nat) (x1 : Int32) (x2 : Int32) (x3 : Int32) (H : Heap) (locs : List Loc) (ls : Array Slot), mHp D n0 S M n s H locs → lv_has ls 6 [(0, .ref x0), (1, .int x1), (2, .int x2), (3, .int x3)] → fb_X0_fewestStones_156 S k58 M x0 x1 x2 x3 = some (r, M') → W p l e Rm_X0_fewestStones s m args below meth c H locs 0 0 (MQ below (mQ D n0 (some (.int r)) S M' n) args s 0 0 (mA n0)) (F0 m 156 ls []) := by
  have hx := X.1.1
  have hb := X.1.2.1
  have hown := X.1.2.2.2.1
  have hts := X.1.2.2.2.2
  intro M x0 x1 x2 x3 H locs ls hp hl hF
  unfold fb_X0_fewestStones_156 at hF
  obtain ⟨v60, ev61⟩ : ∃ y : Int32, y = x3 + (1 : Int32) := ⟨_, rfl⟩
  have hF := nm_s hF ev61
  refine lv_iinc (v := v60) (lv' := [(3, .int v60), (0, .ref x0), (1, .int x1), (2, .int x2)]) hx hb dX0_fewestStones_156 hl (k := 3) rfl (by rw [ev61]; rfl) (by decide) rfl (fun ls hl => ?_)
  refine lv_goto (tgt := 58) hx hb dX0_fewestStones_159 (by decide) ?_
  exact hk58 _ _ _ _ _ _ _ _ hp (lv_sub hl [1, 2, 3, 0] rfl) hF
def fb_X0_fewestStones_58 (S : mSh) (k49 : mMm → Nat → Int32 → Int32 → Option (Int32 × mMm)) : Nat → mMm → Nat → Int32 → Int32 → Int32 → Option (Int32 × mMm)
  | 0, _, _, _, _, _ => none
  | t + 1, M, x0, x1, x2, x3 => (if (9 : Int32) ≤ x3 then nm (x2 + (1 : Int32)) fun v28 => (k49 M x0 x1 v28) else nm ((((x2 - x2 / (12 : Int32) * (12 : Int32)) + (x3 - x3 / (3 : Int32) * (3 : Int32))) - (1 : Int32))) fun v30 => nm ((((x2 / (12 : Int32)) + (x3 / (3 : Int32))) - (1 : Int32))) fun v32 => ob (f_X0_isCell v30 v32) fun v35 => (if v35 = 0 then (fb_X0_fewestStones_156 S (fb_X0_fewestStones_58 S k49 t) M x0 x1 x2 x3) else ob (rR S M x0 1 10) fun v37 => ob (aI S M v37 100 (((12 : Int32) * v32) + v30)) fun v39 => ob (f_X0_costOf S M x0 x2) fun v42 => ob (rR S M x0 1 10) fun v43 => ob (aI S M v43 100 x2) fun v45 => (if (v39 + v42) < v45 then ob (rR S M x0 1 10) fun v48 => ob (rR S M x0 1 10) fun v50 => ob (aI S M v50 100 (((12 : Int32) * v32) + v30)) fun v52 => ob (f_X0_costOf S M x0 x2) fun v55 => ob (wA S M v48 100 x2 (.int (v52 + v55))) fun M56 => nm ((1 : Int32)) fun v58 => (fb_X0_fewestStones_156 S (fb_X0_fewestStones_58 S k49 t) M56 x0 v58 x2 x3) else (fb_X0_fewestStones_156 S (fb_X0_fewestStones_58 S k49 t) M x0 x1 x2 x3))))
theorem b_X0_fewestStones_58 {r : Int32} {M' : mMm} (X : mCx D n0 P p m c cX0_fewestStones 6 s args yX0_fewestStones.cls meth (some .int)) (k49 : mMm → Nat → Int32 → Int32 → Option (Int32 × mMm)) (hk49 : ∀ (M : mMm) (x0 : Nat) (x1 : Int32) (x2 : Int32) (H : Heap) (locs : List Loc) (ls : Array Slot), mHp D n0 S M n s H locs → lv_has ls 6 [(0, .ref x0), (1, .int x1), (2, .int x2)] → k49 M x0 x1 x2 = some (r, M') → W p l e Rm_X0_fewestStones s m args below meth c H locs 0 0 (MQ below (mQ D n0 (some (.int r)) S M' n) args s 0 0 (mA n0)) (F0 m 49 ls [])) : ∀ t : Nat, ∀ (M : mMm) (x0 : Nat) (x1 : Int32) (x2 : Int32) (x3 : Int32) (H : Heap) (locs : List Loc) (ls : Array Slot), mHp D n0 S M n s H locs → lv_has ls 6 [(0, .ref x0), (1, .int x1), (2, .int x2), (3, .int x3)] → fb_X0_fewestStones_58 S k49 t M x0 x1 x2 x3 = some (r, M') → W p l e Rm_X0_fewestStones s m args below meth c H locs 0 0 (MQ below (mQ D n0 (some (.int r)) S M' n) args s 0 0 (mA n0)) (F0 m 58 ls []) := by
  have hx := X.1.1
  have hb := X.1.2.1
  have hown := X.1.2.2.2.1
  have hts := X.1.2.2.2.2
  intro t
  induction t with
  | zero =>
    intro M x0 x1 x2 x3 H locs ls hp hl hF
    have hF : none = some (r, M') := hF
    cases hF
  | succ t ih =>
    intro M x0 x1 x2 x3 H locs ls hp hl hF
    rw [fb_X0_fewestStones_58] at hF
    refine lv_iload_n hx hb dX0_fewestStones_58 rfl (lv_at hl 3 rfl) ?_
    refine lv_bipush (v := 9) hx hb dX0_fewestStones_59 (by decide) ?_
    refine lv_icmp_ge (tgt := 162) hx hb dX0_fewestStones_61 (by decide) (fun c27 => ?_) (fun c27 => ?_)
    · have hF := if_p c27 hF
      obtain ⟨v28, ev29⟩ : ∃ y : Int32, y = x2 + (1 : Int32) := ⟨_, rfl⟩
      have hF := nm_s hF ev29
      refine lv_iinc (v := v28) (lv' := [(2, .int v28), (0, .ref x0), (1, .int x1), (3, .int x3)]) hx hb dX0_fewestStones_162 hl (k := 2) rfl (by rw [ev29]; rfl) (by decide) rfl (fun ls hl => ?_)
      refine lv_goto (tgt := 49) hx hb dX0_fewestStones_165 (by decide) ?_
      exact hk49 _ _ _ _ _ _ _ hp (lv_sub hl [1, 2, 0] rfl) hF
    · have hF := if_n c27 hF
      refine lv_iload_n hx hb dX0_fewestStones_64 rfl (lv_at hl 2 rfl) ?_
      refine lv_bipush (v := 12) hx hb dX0_fewestStones_65 (by decide) ?_
      refine lv_irem hx hb dX0_fewestStones_67 (by decide) ?_
      refine lv_iload_n hx hb dX0_fewestStones_68 rfl (lv_at hl 3 rfl) ?_
      refine lv_iconst (v := 3) hx hb dX0_fewestStones_69 (by decide) ?_
      refine lv_irem hx hb dX0_fewestStones_70 (by decide) ?_
      refine lv_iadd hx hb dX0_fewestStones_71 ?_
      refine lv_iconst (v := 1) hx hb dX0_fewestStones_72 (by decide) ?_
      refine lv_isub hx hb dX0_fewestStones_73 ?_
      refine lv_topi (fun v30 ev31 => ?_)
      have hF := nm_s hF ev31
      refine lv_istore (lv' := [(4, .int v30), (0, .ref x0), (1, .int x1), (2, .int x2), (3, .int x3)]) hx hb dX0_fewestStones_74 hl (by decide) rfl (fun ls hl => ?_)
      refine lv_iload_n hx hb dX0_fewestStones_76 rfl (lv_at hl 3 rfl) ?_
      refine lv_bipush (v := 12) hx hb dX0_fewestStones_77 (by decide) ?_
      refine lv_idiv hx hb dX0_fewestStones_79 (by decide) ?_
      refine lv_iload_n hx hb dX0_fewestStones_80 rfl (lv_at hl 4 rfl) ?_
      refine lv_iconst (v := 3) hx hb dX0_fewestStones_81 (by decide) ?_
      refine lv_idiv hx hb dX0_fewestStones_82 (by decide) ?_
      refine lv_iadd hx hb dX0_fewestStones_83 ?_
      refine lv_iconst (v := 1) hx hb dX0_fewestStones_84 (by decide) ?_
      refine lv_isub hx hb dX0_fewestStones_85 ?_
      refine lv_topi (fun v32 ev33 => ?_)
      have hF := nm_s hF ev33
      refine lv_istore (lv' := [(5, .int v32), (4, .int v30), (0, .ref x0), (1, .int x1), (2, .int x2), (3, .int x3)]) hx hb dX0_fewestStones_86 hl (by decide) rfl (fun ls hl => ?_)
      refine lv_iload hx hb dX0_fewestStones_88 (lv_at hl 1 rfl) ?_
      refine lv_iload hx hb dX0_fewestStones_90 (lv_at hl 0 rfl) ?_
      obtain ⟨v35, e34, hF⟩ := ob_s hF
      refine m_callS (As := [.int v30, .int v32]) (rest := []) X hp (w_X0_isCell e34) q1068 q1069 q132 q1070 2 rfl ds_X0_isCell ⟨Nat.le_of_ble_eq_true rfl, Nat.le_of_ble_eq_true rfl⟩ hl.1 rfl (Nat.le_of_ble_eq_true rfl) dX0_fewestStones_92 ⟨Nat.le_refl 0, Nat.le_refl 0⟩ (fun H locs hp => ?_)
      refine lv_if_eq (tgt := 156) hx hb dX0_fewestStones_95 (by decide) (fun c36 => ?_) (fun c36 => ?_)
      · have hF := if_p c36 hF
        exact b_X0_fewestStones_156 X _ ih _ _ _ _ _ _ _ _ hp (lv_sub hl [2, 3, 4, 5] rfl) hF
      · have hF := if_n c36 hF
        refine lv_aload_n hx hb dX0_fewestStones_98 rfl (lv_at hl 2 rfl) ?_
        obtain ⟨v37, e38, hF⟩ := ob_s hF
        refine m_getR X hp e38 kX0 (Nat.le_of_ble_eq_true rfl) q470 dX0_fewestStones_99 ?_
        refine lv_bipush (v := 12) hx hb dX0_fewestStones_102 (by decide) ?_
        refine lv_iload hx hb dX0_fewestStones_104 (lv_at hl 0 rfl) ?_
        refine lv_imul hx hb dX0_fewestStones_106 ?_
        refine lv_iload hx hb dX0_fewestStones_107 (lv_at hl 1 rfl) ?_
        refine lv_iadd hx hb dX0_fewestStones_109 ?_
        obtain ⟨v39, e40, hF⟩ := ob_s hF
        refine m_iaI X hp e40 dX0_fewestStones_110 ?_
        refine lv_aload_n hx hb dX0_fewestStones_111 rfl (lv_at hl 2 rfl) ?_
        refine lv_iload_n hx hb dX0_fewestStones_112 rfl (lv_at hl 4 rfl) ?_
        obtain ⟨v42, e41, hF⟩ := ob_s hF
        refine m_callV (As := [.int x2]) (rest := [.int v39]) X hp (w_X0_costOf e41) q1375 q1377 qs58 q132 q1378 1 rfl ds_X0_costOf ⟨Nat.le_of_ble_eq_true rfl, Nat.le_of_ble_eq_true rfl⟩ 1 (T := TX0) (N := 30) rfl (by decide) (rR_s e38).1 hl.1 rfl (Nat.le_of_ble_eq_true rfl) dX0_fewestStones_113 ⟨Nat.le_refl 0, Nat.le_refl 0⟩ (fun H locs hp => ?_)
        refine lv_iadd hx hb dX0_fewestStones_116 ?_
        refine lv_aload_n hx hb dX0_fewestStones_117 rfl (lv_at hl 2 rfl) ?_
        obtain ⟨v43, e44, hF⟩ := ob_s hF
        refine m_getR X hp e44 kX0 (Nat.le_of_ble_eq_true rfl) q470 dX0_fewestStones_118 ?_
        refine lv_iload_n hx hb dX0_fewestStones_121 rfl (lv_at hl 4 rfl) ?_
        obtain ⟨v45, e46, hF⟩ := ob_s hF
        refine m_iaI X hp e46 dX0_fewestStones_122 ?_
        refine lv_icmp_lt (tgt := 129) hx hb dX0_fewestStones_123 (by decide) (fun c47 => ?_) (fun c47 => ?_)
        · have hF := if_p c47 hF
          refine lv_aload_n hx hb dX0_fewestStones_129 rfl (lv_at hl 2 rfl) ?_
          obtain ⟨v48, e49, hF⟩ := ob_s hF
          refine m_getR X hp e49 kX0 (Nat.le_of_ble_eq_true rfl) q470 dX0_fewestStones_130 ?_
          refine lv_iload_n hx hb dX0_fewestStones_133 rfl (lv_at hl 4 rfl) ?_
          refine lv_aload_n hx hb dX0_fewestStones_134 rfl (lv_at hl 2 rfl) ?_
          obtain ⟨v50, e51, hF⟩ := ob_s hF
          refine m_getR X hp e51 kX0 (Nat.le_of_ble_eq_true rfl) q470 dX0_fewestStones_135 ?_
          refine lv_bipush (v := 12) hx hb dX0_fewestStones_138 (by decide) ?_
          refine lv_iload hx hb dX0_fewestStones_140 (lv_at hl 0 rfl) ?_
          refine lv_imul hx hb dX0_fewestStones_142 ?_
          refine lv_iload hx hb dX0_fewestStones_143 (lv_at hl 1 rfl) ?_
          refine lv_iadd hx hb dX0_fewestStones_145 ?_
          obtain ⟨v52, e53, hF⟩ := ob_s hF
          refine m_iaI X hp e53 dX0_fewestStones_146 ?_
          refine lv_aload_n hx hb dX0_fewestStones_147 rfl (lv_at hl 2 rfl) ?_
          refine lv_iload_n hx hb dX0_fewestStones_148 rfl (lv_at hl 4 rfl) ?_
          obtain ⟨v55, e54, hF⟩ := ob_s hF
          refine m_callV (As := [.int x2]) (rest := [.int v52, .int x2, .ref v48]) X hp (w_X0_costOf e54) q1375 q1377 qs58 q132 q1378 1 rfl ds_X0_costOf ⟨Nat.le_of_ble_eq_true rfl, Nat.le_of_ble_eq_true rfl⟩ 1 (T := TX0) (N := 30) rfl (by decide) (rR_s e51).1 hl.1 rfl (Nat.le_of_ble_eq_true rfl) dX0_fewestStones_149 ⟨Nat.le_refl 0, Nat.le_refl 0⟩ (fun H locs hp => ?_)
          refine lv_iadd hx hb dX0_fewestStones_152 ?_
          obtain ⟨M56, e57, hF⟩ := ob_s hF
          refine m_iaW X hp e57 dX0_fewestStones_153 (fun H locs hp => ?_)
          refine lv_iconst (v := 1) hx hb dX0_fewestStones_154 (by decide) ?_
          refine lv_topi (fun v58 ev59 => ?_)
          have hF := nm_s hF ev59
          refine lv_istore_n (lv' := [(1, .int v58), (5, .int v32), (4, .int v30), (0, .ref x0), (2, .int x2), (3, .int x3)]) hx hb dX0_fewestStones_155 rfl hl (by decide) rfl (fun ls hl => ?_)
          exact b_X0_fewestStones_156 X _ ih _ _ _ _ _ _ _ _ hp (lv_sub hl [3, 0, 4, 5] rfl) hF
        · have hF := if_n c47 hF
          refine lv_goto (tgt := 156) hx hb dX0_fewestStones_126 (by decide) ?_
          exact b_X0_fewestStones_156 X _ ih _ _ _ _ _ _ _ _ hp (lv_sub hl [2, 3, 4, 5] rfl) hF
def fb_X0_fewestStones_49 (S : mSh) (k41 : mMm → Nat → Int32 → Option (Int32 × mMm)) : Nat → mMm → Nat → Int32 → Int32 → Option (Int32 × mMm)
  | 0, _, _, _, _ => none
  | t + 1, M, x0, x1, x2 => (if (144 : Int32) ≤ x2 then (k41 M x0 x1) else nm ((0 : Int32)) fun v25 => (fb_X0_fewestStones_58 S (fb_X0_fewestStones_49 S k41 t) FU M x0 x1 x2 v25))
theorem b_X0_fewestStones_49 {r : Int32} {M' : mMm} (X : mCx D n0 P p m c cX0_fewestStones 6 s args yX0_fewestStones.cls meth (some .int)) (k41 : mMm → Nat → Int32 → Option (Int32 × mMm)) (hk41 : ∀ (M : mMm) (x0 : Nat) (x1 : Int32) (H : Heap) (locs : List Loc) (ls : Array Slot), mHp D n0 S M n s H locs → lv_has ls 6 [(0, .ref x0), (1, .int x1)] → k41 M x0 x1 = some (r, M') → W p l e Rm_X0_fewestStones s m args below meth c H locs 0 0 (MQ below (mQ D n0 (some (.int r)) S M' n) args s 0 0 (mA n0)) (F0 m 41 ls [])) : ∀ t : Nat, ∀ (M : mMm) (x0 : Nat) (x1 : Int32) (x2 : Int32) (H : Heap) (locs : List Loc) (ls : Array Slot), mHp D n0 S M n s H locs → lv_has ls 6 [(0, .ref x0), (1, .int x1), (2, .int x2)] → fb_X0_fewestStones_49 S k41 t M x0 x1 x2 = some (r, M') → W p l e Rm_X0_fewestStones s m args below meth c H locs 0 0 (MQ below (mQ D n0 (some (.int r)) S M' n) args s 0 0 (mA n0)) (F0 m 49 ls []) := by
  have hx := X.1.1
  have hb := X.1.2.1
  have hown := X.1.2.2.2.1
  have hts := X.1.2.2.2.2
  intro t
  induction t with
  | zero =>
    intro M x0 x1 x2 H locs ls hp hl hF
    have hF : none = some (r, M') := hF
    cases hF
  | succ t ih =>
    intro M x0 x1 x2 H locs ls hp hl hF
    rw [fb_X0_fewestStones_49] at hF
    refine lv_iload_n hx hb dX0_fewestStones_49 rfl (lv_at hl 2 rfl) ?_
    refine lv_sipush (v := 144) hx hb dX0_fewestStones_50 (by decide) ?_
    refine lv_icmp_ge (tgt := 168) hx hb dX0_fewestStones_53 (by decide) (fun c24 => ?_) (fun c24 => ?_)
    · have hF := if_p c24 hF
      refine lv_goto (tgt := 41) hx hb dX0_fewestStones_168 (by decide) ?_
      exact hk41 _ _ _ _ _ _ hp (lv_sub hl [0, 1] rfl) hF
    · have hF := if_n c24 hF
      refine lv_iconst (v := 0) hx hb dX0_fewestStones_56 (by decide) ?_
      refine lv_topi (fun v25 ev26 => ?_)
      have hF := nm_s hF ev26
      refine lv_istore_n (lv' := [(3, .int v25), (0, .ref x0), (1, .int x1), (2, .int x2)]) hx hb dX0_fewestStones_57 rfl hl (by decide) rfl (fun ls hl => ?_)
      exact b_X0_fewestStones_58 X _ ih _ _ _ _ _ _ _ _ _ hp (lv_sub hl [1, 2, 3, 0] rfl) hF
def fb_X0_fewestStones_177 (S : mSh) : Nat → mMm → Nat → Int32 → Int32 → Option (Int32 × mMm)
  | 0, _, _, _, _ => none
  | t + 1, M, x0, x1, x2 => (if (12 : Int32) ≤ x2 then some (x1, M) else ob (rR S M x0 1 10) fun v63 => ob (aI S M v63 100 ((((12 : Int32) * x2) + (12 : Int32)) - (1 : Int32))) fun v65 => ob (f_J4_min x1 v65) fun v68 => nm (x2 + (1 : Int32)) fun v69 => (fb_X0_fewestStones_177 S t M x0 v68 v69))
theorem b_X0_fewestStones_177 {r : Int32} {M' : mMm} (X : mCx D n0 P p m c cX0_fewestStones 6 s args yX0_fewestStones.cls meth (some .int)) : ∀ t : Nat, ∀ (M : mMm) (x0 : Nat) (x1 : Int32) (x2 : Int32) (H : Heap) (locs : List Loc) (ls : Array Slot), mHp D n0 S M n s H locs → lv_has ls 6 [(0, .ref x0), (1, .int x1), (2, .int x2)] → fb_X0_fewestStones_177 S t M x0 x1 x2 = some (r, M') → W p l e Rm_X0_fewestStones s m args below meth c H locs 0 0 (MQ below (mQ D n0 (some (.int r)) S M' n) args s 0 0 (mA n0)) (F0 m 177 ls []) := by
  have hx := X.1.1
  have hb := X.1.2.1
  have hown := X.1.2.2.2.1
  have hts := X.1.2.2.2.2
  intro t
  induction t with
  | zero =>
    intro M x0 x1 x2 H locs ls hp hl hF
    have hF : none = some (r, M') := hF
    cases hF
  | succ t ih =>
    intro M x0 x1 x2 H locs ls hp hl hF
    rw [fb_X0_fewestStones_177] at hF
    refine lv_iload_n hx hb dX0_fewestStones_177 rfl (lv_at hl 2 rfl) ?_
    refine lv_bipush (v := 12) hx hb dX0_fewestStones_178 (by decide) ?_
    refine lv_icmp_ge (tgt := 208) hx hb dX0_fewestStones_180 (by decide) (fun c62 => ?_) (fun c62 => ?_)
    · have hF := if_p c62 hF
      refine lv_iload_n hx hb dX0_fewestStones_208 rfl (lv_at hl 1 rfl) ?_
      cases hF
      exact m_iret X hp dX0_fewestStones_209
    · have hF := if_n c62 hF
      refine lv_iload_n hx hb dX0_fewestStones_183 rfl (lv_at hl 1 rfl) ?_
      refine lv_aload_n hx hb dX0_fewestStones_184 rfl (lv_at hl 0 rfl) ?_
      obtain ⟨v63, e64, hF⟩ := ob_s hF
      refine m_getR X hp e64 kX0 (Nat.le_of_ble_eq_true rfl) q470 dX0_fewestStones_185 ?_
      refine lv_bipush (v := 12) hx hb dX0_fewestStones_188 (by decide) ?_
      refine lv_iload_n hx hb dX0_fewestStones_190 rfl (lv_at hl 2 rfl) ?_
      refine lv_imul hx hb dX0_fewestStones_191 ?_
      refine lv_bipush (v := 12) hx hb dX0_fewestStones_192 (by decide) ?_
      refine lv_iadd hx hb dX0_fewestStones_194 ?_
      refine lv_iconst (v := 1) hx hb dX0_fewestStones_195 (by decide) ?_
      refine lv_isub hx hb dX0_fewestStones_196 ?_
      obtain ⟨v65, e66, hF⟩ := ob_s hF
      refine m_iaI X hp e66 dX0_fewestStones_197 ?_
      obtain ⟨v68, e67, hF⟩ := ob_s hF
      refine m_callS (As := [.int x1, .int v65]) (rest := []) X hp (w_J4_min e67) q1169 q368 q141 q369 2 rfl ds_J4_min ⟨Nat.le_of_ble_eq_true rfl, Nat.le_of_ble_eq_true rfl⟩ hl.1 rfl (Nat.le_of_ble_eq_true rfl) dX0_fewestStones_198 ⟨Nat.le_refl 0, Nat.le_refl 0⟩ (fun H locs hp => ?_)
      refine lv_istore_n (lv' := [(1, .int v68), (0, .ref x0), (2, .int x2)]) hx hb dX0_fewestStones_201 rfl hl (by decide) rfl (fun ls hl => ?_)
      obtain ⟨v69, ev70⟩ : ∃ y : Int32, y = x2 + (1 : Int32) := ⟨_, rfl⟩
      have hF := nm_s hF ev70
      refine lv_iinc (v := v69) (lv' := [(2, .int v69), (1, .int v68), (0, .ref x0)]) hx hb dX0_fewestStones_202 hl (k := 2) rfl (by rw [ev70]; rfl) (by decide) rfl (fun ls hl => ?_)
      refine lv_goto (tgt := 177) hx hb dX0_fewestStones_205 (by decide) ?_
      exact ih _ _ _ _ _ _ _ hp (lv_sub hl [2, 1, 0] rfl) hF
def fb_X0_fewestStones_41 (S : mSh) : Nat → mMm → Nat → Int32 → Option (Int32 × mMm)
  | 0, _, _, _ => none
  | t + 1, M, x0, x1 => (if x1 = 0 then nm ((1000000 : Int32)) fun v16 => nm ((0 : Int32)) fun v18 => (fb_X0_fewestStones_177 S FU M x0 v16 v18) else nm ((0 : Int32)) fun v20 => nm ((0 : Int32)) fun v22 => (fb_X0_fewestStones_49 S (fb_X0_fewestStones_41 S t) FU M x0 v20 v22))
theorem b_X0_fewestStones_41 {r : Int32} {M' : mMm} (X : mCx D n0 P p m c cX0_fewestStones 6 s args yX0_fewestStones.cls meth (some .int)) : ∀ t : Nat, ∀ (M : mMm) (x0 : Nat) (x1 : Int32) (H : Heap) (locs : List Loc) (ls : Array Slot), mHp D n0 S M n s H locs → lv_has ls 6 [(0, .ref x0), (1, .int x1)] → fb_X0_fewestStones_41 S t M x0 x1 = some (r, M') → W p l e Rm_X0_fewestStones s m args below meth c H locs 0 0 (MQ below (mQ D n0 (some (.int r)) S M' n) args s 0 0 (mA n0)) (F0 m 41 ls []) := by
  have hx := X.1.1
  have hb := X.1.2.1
  have hown := X.1.2.2.2.1
  have hts := X.1.2.2.2.2
  intro t
  induction t with
  | zero =>
    intro M x0 x1 H locs ls hp hl hF
    have hF : none = some (r, M') := hF
    cases hF
  | succ t ih =>
    intro M x0 x1 H locs ls hp hl hF
    rw [fb_X0_fewestStones_41] at hF
    refine lv_iload_n hx hb dX0_fewestStones_41 rfl (lv_at hl 1 rfl) ?_
    refine lv_if_eq (tgt := 171) hx hb dX0_fewestStones_42 (by decide) (fun c15 => ?_) (fun c15 => ?_)
    · have hF := if_p c15 hF
      refine lv_ldcw hx hb hown (hts _ q1236) dX0_fewestStones_171 ?_
      refine lv_topi (fun v16 ev17 => ?_)
      have hF := nm_s hF ev17
      refine lv_istore_n (lv' := [(1, .int v16), (0, .ref x0)]) hx hb dX0_fewestStones_174 rfl hl (by decide) rfl (fun ls hl => ?_)
      refine lv_iconst (v := 0) hx hb dX0_fewestStones_175 (by decide) ?_
      refine lv_topi (fun v18 ev19 => ?_)
      have hF := nm_s hF ev19
      refine lv_istore_n (lv' := [(2, .int v18), (1, .int v16), (0, .ref x0)]) hx hb dX0_fewestStones_176 rfl hl (by decide) rfl (fun ls hl => ?_)
      exact b_X0_fewestStones_177 X _ _ _ _ _ _ _ _ hp (lv_sub hl [2, 1, 0] rfl) hF
    · have hF := if_n c15 hF
      refine lv_iconst (v := 0) hx hb dX0_fewestStones_45 (by decide) ?_
      refine lv_topi (fun v20 ev21 => ?_)
      have hF := nm_s hF ev21
      refine lv_istore_n (lv' := [(1, .int v20), (0, .ref x0)]) hx hb dX0_fewestStones_46 rfl hl (by decide) rfl (fun ls hl => ?_)
      refine lv_iconst (v := 0) hx hb dX0_fewestStones_47 (by decide) ?_
      refine lv_topi (fun v22 ev23 => ?_)
      have hF := nm_s hF ev23
      refine lv_istore_n (lv' := [(2, .int v22), (1, .int v20), (0, .ref x0)]) hx hb dX0_fewestStones_48 rfl hl (by decide) rfl (fun ls hl => ?_)
      exact b_X0_fewestStones_49 X _ ih _ _ _ _ _ _ _ _ hp (lv_sub hl [2, 1, 0] rfl) hF
def fb_X0_fewestStones_2 (S : mSh) : Nat → mMm → Nat → Int32 → Option (Int32 × mMm)
  | 0, _, _, _ => none
  | t + 1, M, x0, x1 => (if (144 : Int32) ≤ x1 then nm ((1 : Int32)) fun v4 => (fb_X0_fewestStones_41 S FU M x0 v4) else ob (rR S M x0 1 10) fun v6 => (if (x1 - x1 / (12 : Int32) * (12 : Int32)) = 0 then ob (f_X0_costOf S M x0 x1) fun v10 => (fb_X0_fewestStones_32 S (fb_X0_fewestStones_2 S t) M x0 x1 v10 x1 v6) else (fb_X0_fewestStones_32 S (fb_X0_fewestStones_2 S t) M x0 x1 (1000000 : Int32) x1 v6)))
theorem b_X0_fewestStones_2 {r : Int32} {M' : mMm} (X : mCx D n0 P p m c cX0_fewestStones 6 s args yX0_fewestStones.cls meth (some .int)) : ∀ t : Nat, ∀ (M : mMm) (x0 : Nat) (x1 : Int32) (H : Heap) (locs : List Loc) (ls : Array Slot), mHp D n0 S M n s H locs → lv_has ls 6 [(0, .ref x0), (1, .int x1)] → fb_X0_fewestStones_2 S t M x0 x1 = some (r, M') → W p l e Rm_X0_fewestStones s m args below meth c H locs 0 0 (MQ below (mQ D n0 (some (.int r)) S M' n) args s 0 0 (mA n0)) (F0 m 2 ls []) := by
  have hx := X.1.1
  have hb := X.1.2.1
  have hown := X.1.2.2.2.1
  have hts := X.1.2.2.2.2
  intro t
  induction t with
  | zero =>
    intro M x0 x1 H locs ls hp hl hF
    have hF : none = some (r, M') := hF
    cases hF
  | succ t ih =>
    intro M x0 x1 H locs ls hp hl hF
    rw [fb_X0_fewestStones_2] at hF
    refine lv_iload_n hx hb dX0_fewestStones_2 rfl (lv_at hl 1 rfl) ?_
    refine lv_sipush (v := 144) hx hb dX0_fewestStones_3 (by decide) ?_
    refine lv_icmp_ge (tgt := 39) hx hb dX0_fewestStones_6 (by decide) (fun c3 => ?_) (fun c3 => ?_)
    · have hF := if_p c3 hF
      refine lv_iconst (v := 1) hx hb dX0_fewestStones_39 (by decide) ?_
      refine lv_topi (fun v4 ev5 => ?_)
      have hF := nm_s hF ev5
      refine lv_istore_n (lv' := [(1, .int v4), (0, .ref x0)]) hx hb dX0_fewestStones_40 rfl hl (by decide) rfl (fun ls hl => ?_)
      exact b_X0_fewestStones_41 X _ _ _ _ _ _ _ hp (lv_sub hl [1, 0] rfl) hF
    · have hF := if_n c3 hF
      refine lv_aload_n hx hb dX0_fewestStones_9 rfl (lv_at hl 0 rfl) ?_
      obtain ⟨v6, e7, hF⟩ := ob_s hF
      refine m_getR X hp e7 kX0 (Nat.le_of_ble_eq_true rfl) q470 dX0_fewestStones_10 ?_
      refine lv_iload_n hx hb dX0_fewestStones_13 rfl (lv_at hl 1 rfl) ?_
      refine lv_iload_n hx hb dX0_fewestStones_14 rfl (lv_at hl 1 rfl) ?_
      refine lv_bipush (v := 12) hx hb dX0_fewestStones_15 (by decide) ?_
      refine lv_irem hx hb dX0_fewestStones_17 (by decide) ?_
      refine lv_if_ne (tgt := 29) hx hb dX0_fewestStones_18 (by decide) (fun c8 => ?_) (fun c8 => ?_)
      · have hF := if_n c8 hF
        refine lv_ldcw hx hb hown (hts _ q1236) dX0_fewestStones_29 ?_
        exact b_X0_fewestStones_32 X _ ih _ _ _ _ _ _ _ _ _ hp (lv_sub hl [0, 1] rfl) hF
      · have hF := if_p c8 hF
        refine lv_aload_n hx hb dX0_fewestStones_21 rfl (lv_at hl 0 rfl) ?_
        refine lv_iload_n hx hb dX0_fewestStones_22 rfl (lv_at hl 1 rfl) ?_
        obtain ⟨v10, e9, hF⟩ := ob_s hF
        refine m_callV (As := [.int x1]) (rest := [.int x1, .ref v6]) X hp (w_X0_costOf e9) q1375 q1377 qs58 q132 q1378 1 rfl ds_X0_costOf ⟨Nat.le_of_ble_eq_true rfl, Nat.le_of_ble_eq_true rfl⟩ 1 (T := TX0) (N := 30) rfl (by decide) (rR_s e7).1 hl.1 rfl (Nat.le_of_ble_eq_true rfl) dX0_fewestStones_23 ⟨Nat.le_refl 0, Nat.le_refl 0⟩ (fun H locs hp => ?_)
        refine lv_goto (tgt := 32) hx hb dX0_fewestStones_26 (by decide) ?_
        exact b_X0_fewestStones_32 X _ ih _ _ _ _ _ _ _ _ _ hp (lv_sub hl [0, 1] rfl) hF
def f_X0_fewestStones (S : mSh) (M : mMm) (x0 : Nat) : Option (Int32 × mMm) := nm ((0 : Int32)) fun v1 => (fb_X0_fewestStones_2 S FU M x0 v1)
theorem w_X0_fewestStones {x0 : Nat} {r : Int32} {M' : mMm} (hF : f_X0_fewestStones S M x0 = some (r, M')) : mCt l D n0 P yX0_fewestStones cX0_fewestStones 6 (some .int) 2 43 0 0 [.ref x0] S M n (some (.int r)) S M' n := by
  refine m_ofW (by decide) (Nat.le_of_ble_eq_true rfl) (fun p e s m below meth c X hnm hp ls hl => ?_)
  have hx := X.1.1
  have hb := X.1.2.1
  have hown := X.1.2.2.2.1
  have hts := X.1.2.2.2.2
  have hl : lv_has ls 6 [(0, .ref x0)] := hl
  unfold f_X0_fewestStones at hF
  refine lv_iconst (v := 0) hx hb dX0_fewestStones_0 (by decide) ?_
  refine lv_topi (fun v1 ev2 => ?_)
  have hF := nm_s hF ev2
  refine lv_istore_n (lv' := [(1, .int v1), (0, .ref x0)]) hx hb dX0_fewestStones_1 rfl hl (by decide) rfl (fun ls hl => ?_)
  exact b_X0_fewestStones_2 X _ _ _ _ _ _ _ hp (lv_sub hl [1, 0] rfl) hF
end
section
variable {l : Launch} {D : va_G} {n0 : Nat} {P : mP} {S : mSh} {M : mMm} {n : Nat} {p : Program} {e : Env} {s : State} {m : MethodId} {args : Array Value} {below : List Frame} {meth : Method} {c : Code}
abbrev Rm_X0_apart : Room := { frames := 607, cells := 0, slots := 0, locals := 13954 }
def f_X0_apart (S : mSh) (M : mMm) (x0 : Nat) (x1 : Int32) : Option (Int32 × mMm) := (if x1 = 0 then gd ((S x0).1 = 1) (ob (f_X0_mostApart S M x0) fun ⟨v9, M10⟩ => some (v9, M10)) else (if x1 = (1 : Int32) then gd ((S x0).1 = 1) (ob (f_X0_fewestStones S M x0) fun ⟨v5, M6⟩ => some (v5, M6)) else some ((-1 : Int32), M)))
theorem w_X0_apart {x0 : Nat} {x1 : Int32} {r : Int32} {M' : mMm} (hF : f_X0_apart S M x0 x1 = some (r, M')) : mCt l D n0 P yX0_apart cX0_apart 2 (some .int) 607 13954 0 0 [.ref x0, .int x1] S M n (some (.int r)) S M' n := by
  refine m_ofW (by decide) (Nat.le_of_ble_eq_true rfl) (fun p e s m below meth c X hnm hp ls hl => ?_)
  have hx := X.1.1
  have hb := X.1.2.1
  have hown := X.1.2.2.2.1
  have hts := X.1.2.2.2.2
  have hl : lv_has ls 2 [(0, .ref x0), (1, .int x1)] := hl
  unfold f_X0_apart at hF
  refine lv_iload_n hx hb dX0_apart_0 rfl (lv_at hl 1 rfl) ?_
  refine lv_if_ne (tgt := 11) hx hb dX0_apart_1 (by decide) (fun c1 => ?_) (fun c1 => ?_)
  · have hF := if_n c1 hF
    refine lv_iload_n hx hb dX0_apart_11 rfl (lv_at hl 1 rfl) ?_
    refine lv_iconst (v := 1) hx hb dX0_apart_12 (by decide) ?_
    refine lv_icmp_ne (tgt := 23) hx hb dX0_apart_13 (by decide) (fun c2 => ?_) (fun c2 => ?_)
    · have hF := if_n c2 hF
      refine lv_iconst (v := -1) hx hb dX0_apart_23 (by decide) ?_
      cases hF
      exact m_iret X hp dX0_apart_24
    · have hF := if_p c2 hF
      refine lv_aload_n hx hb dX0_apart_16 rfl (lv_at hl 0 rfl) ?_
      obtain ⟨g3, hF⟩ := gd_s hF
      obtain ⟨⟨v5, M6⟩, e4, hF⟩ := ob_s hF
      refine m_callV (As := []) (rest := []) X hp (w_X0_fewestStones e4) q1371 q1373 qs57 q132 q1374 0 rfl ds_X0_fewestStones ⟨Nat.le_of_ble_eq_true rfl, Nat.le_of_ble_eq_true rfl⟩ 1 (T := TX0) (N := 30) rfl (by decide) g3 hl.1 rfl (Nat.le_of_ble_eq_true rfl) dX0_apart_17 ⟨Nat.le_refl 0, Nat.le_refl 0⟩ (fun H locs hp => ?_)
      refine lv_goto (tgt := 24) hx hb dX0_apart_20 (by decide) ?_
      cases hF
      exact m_iret X hp dX0_apart_24
  · have hF := if_p c1 hF
    refine lv_aload_n hx hb dX0_apart_4 rfl (lv_at hl 0 rfl) ?_
    obtain ⟨g7, hF⟩ := gd_s hF
    obtain ⟨⟨v9, M10⟩, e8, hF⟩ := ob_s hF
    refine m_callV (As := []) (rest := []) X hp (w_X0_mostApart e8) q1355 q1357 qs53 q132 q1358 0 rfl ds_X0_mostApart ⟨Nat.le_of_ble_eq_true rfl, Nat.le_of_ble_eq_true rfl⟩ 1 (T := TX0) (N := 30) rfl (by decide) g7 hl.1 rfl (Nat.le_of_ble_eq_true rfl) dX0_apart_5 ⟨Nat.le_refl 0, Nat.le_refl 0⟩ (fun H locs hp => ?_)
    refine lv_goto (tgt := 24) hx hb dX0_apart_8 (by decide) ?_
    cases hF
    exact m_iret X hp dX0_apart_24
end
section
variable {l : Launch} {D : va_G} {n0 : Nat} {P : mP} {S : mSh} {M : mMm} {n : Nat} {p : Program} {e : Env} {s : State} {m : MethodId} {args : Array Value} {below : List Frame} {meth : Method} {c : Code}
abbrev Rm_X3_first : Room := { frames := 0, cells := 0, slots := 0, locals := 0 }
def f_X3_first (S : mSh) (M : mMm) (x0 : Nat) (x1 : Int32) : Option Int32 := ob (rR S M x0 4 0) fun v1 => ob (aR S M v1 108 x1) fun v3 => ob (aI S M v3 100 (0 : Int32)) fun v5 => some v5
theorem w_X3_first {x0 : Nat} {x1 : Int32} {r : Int32} (hF : f_X3_first S M x0 x1 = some r) : mCt l D n0 P yX3_first cX3_first 2 (some .int) 0 0 0 0 [.ref x0, .int x1] S M n (some (.int r)) S M n := by
  refine m_ofW (by decide) (Nat.le_of_ble_eq_true rfl) (fun p e s m below meth c X hnm hp ls hl => ?_)
  have hx := X.1.1
  have hb := X.1.2.1
  have hown := X.1.2.2.2.1
  have hts := X.1.2.2.2.2
  have hl : lv_has ls 2 [(0, .ref x0), (1, .int x1)] := hl
  unfold f_X3_first at hF
  refine lv_aload_n hx hb dX3_first_0 rfl (lv_at hl 0 rfl) ?_
  obtain ⟨v1, e2, hF⟩ := ob_s hF
  refine m_getR X hp e2 kX3 (Nat.le_of_ble_eq_true rfl) q212 dX3_first_1 ?_
  refine lv_iload_n hx hb dX3_first_4 rfl (lv_at hl 1 rfl) ?_
  obtain ⟨v3, e4, hF⟩ := ob_s hF
  refine m_aaR 108 X hp e4 rfl (by decide) rfl dX3_first_5 ?_
  refine lv_iconst (v := 0) hx hb dX3_first_6 (by decide) ?_
  obtain ⟨v5, e6, hF⟩ := ob_s hF
  refine m_iaI X hp e6 dX3_first_7 ?_
  cases hF
  exact m_iret X hp dX3_first_8
end
section
variable {l : Launch} {D : va_G} {n0 : Nat} {P : mP} {S : mSh} {M : mMm} {n : Nat} {p : Program} {e : Env} {s : State} {m : MethodId} {args : Array Value} {below : List Frame} {meth : Method} {c : Code}
abbrev Rm_X0_asBegun : Room := { frames := 1, cells := 0, slots := 0, locals := 21 }
def f_X0_asBegun (S : mSh) (M : mMm) (x0 : Nat) (x1 : Int32) (x2 : Int32) (x3 : Int32) : Option Int32 := ob (rR S M x0 1 4) fun v1 => ob (rR S M v1 2 4) fun v3 => ob (aR S M v3 105 (0 : Int32)) fun v5 => ob (rR S M x0 1 4) fun v7 => ob (rR S M v7 2 4) fun v9 => ob (aR S M v9 105 (0 : Int32)) fun v11 => ob (rI S M v11 4 1) fun v13 => gd (¬ v13 = 0) (gd ((S v5).1 = 4) (ob (f_X3_first S M v5 ((x1 + x2) - (x1 + x2) / v13 * v13)) fun v18 => (if x3 = 0 then some v18 else (if (2 : Int32) ≤ v18 then some v18 else some ((1 : Int32) - v18)))))
theorem w_X0_asBegun {x0 : Nat} {x1 : Int32} {x2 : Int32} {x3 : Int32} {r : Int32} (hF : f_X0_asBegun S M x0 x1 x2 x3 = some r) : mCt l D n0 P yX0_asBegun cX0_asBegun 5 (some .int) 1 21 0 0 [.ref x0, .int x1, .int x2, .int x3] S M n (some (.int r)) S M n := by
  refine m_ofW (by decide) (Nat.le_of_ble_eq_true rfl) (fun p e s m below meth c X hnm hp ls hl => ?_)
  have hx := X.1.1
  have hb := X.1.2.1
  have hown := X.1.2.2.2.1
  have hts := X.1.2.2.2.2
  have hl : lv_has ls 5 [(0, .ref x0), (1, .int x1), (2, .int x2), (3, .int x3)] := hl
  unfold f_X0_asBegun at hF
  refine lv_aload_n hx hb dX0_asBegun_0 rfl (lv_at hl 0 rfl) ?_
  obtain ⟨v1, e2, hF⟩ := ob_s hF
  refine m_getR X hp e2 kX0 (Nat.le_of_ble_eq_true rfl) q463 dX0_asBegun_1 ?_
  obtain ⟨v3, e4, hF⟩ := ob_s hF
  refine m_getRN X hp e4 kX1 (Nat.le_of_ble_eq_true rfl) q384 dX0_asBegun_4 ?_
  refine lv_iconst (v := 0) hx hb dX0_asBegun_7 (by decide) ?_
  obtain ⟨v5, e6, hF⟩ := ob_s hF
  refine m_aaR 105 X hp e6 rfl (by decide) rfl dX0_asBegun_8 ?_
  refine lv_iload_n hx hb dX0_asBegun_9 rfl (lv_at hl 1 rfl) ?_
  refine lv_iload_n hx hb dX0_asBegun_10 rfl (lv_at hl 2 rfl) ?_
  refine lv_iadd hx hb dX0_asBegun_11 ?_
  refine lv_aload_n hx hb dX0_asBegun_12 rfl (lv_at hl 0 rfl) ?_
  obtain ⟨v7, e8, hF⟩ := ob_s hF
  refine m_getR X hp e8 kX0 (Nat.le_of_ble_eq_true rfl) q463 dX0_asBegun_13 ?_
  obtain ⟨v9, e10, hF⟩ := ob_s hF
  refine m_getRN X hp e10 kX1 (Nat.le_of_ble_eq_true rfl) q384 dX0_asBegun_16 ?_
  refine lv_iconst (v := 0) hx hb dX0_asBegun_19 (by decide) ?_
  obtain ⟨v11, e12, hF⟩ := ob_s hF
  refine m_aaR 105 X hp e12 rfl (by decide) rfl dX0_asBegun_20 ?_
  obtain ⟨v13, e14, hF⟩ := ob_s hF
  refine m_getIN X hp e14 kX3 (Nat.le_of_ble_eq_true rfl) q214 dX0_asBegun_21 ?_
  obtain ⟨g15, hF⟩ := gd_s hF
  refine lv_irem hx hb dX0_asBegun_24 g15 ?_
  obtain ⟨g16, hF⟩ := gd_s hF
  obtain ⟨v18, e17, hF⟩ := ob_s hF
  refine m_callV (As := [.int ((x1 + x2) - (x1 + x2) / v13 * v13)]) (rest := []) X hp (w_X3_first e17) q1304 q1305 q1306 q135 q1307 1 rfl ds_X3_first ⟨Nat.le_of_ble_eq_true rfl, Nat.le_of_ble_eq_true rfl⟩ 4 (T := TX3) (N := 2) rfl (by decide) g16 hl.1 rfl (Nat.le_of_ble_eq_true rfl) dX0_asBegun_25 ⟨Nat.le_refl 0, Nat.le_refl 0⟩ (fun H locs hp => ?_)
  refine lv_istore (lv' := [(4, .int v18), (0, .ref x0), (1, .int x1), (2, .int x2), (3, .int x3)]) hx hb dX0_asBegun_28 hl (by decide) rfl (fun ls hl => ?_)
  refine lv_iload_n hx hb dX0_asBegun_30 rfl (lv_at hl 4 rfl) ?_
  refine lv_if_eq (tgt := 47) hx hb dX0_asBegun_31 (by decide) (fun c19 => ?_) (fun c19 => ?_)
  · have hF := if_p c19 hF
    refine lv_iload hx hb dX0_asBegun_47 (lv_at hl 0 rfl) ?_
    cases hF
    exact m_iret X hp dX0_asBegun_49
  · have hF := if_n c19 hF
    refine lv_iload hx hb dX0_asBegun_34 (lv_at hl 0 rfl) ?_
    refine lv_iconst (v := 2) hx hb dX0_asBegun_36 (by decide) ?_
    refine lv_icmp_ge (tgt := 47) hx hb dX0_asBegun_37 (by decide) (fun c20 => ?_) (fun c20 => ?_)
    · have hF := if_p c20 hF
      refine lv_iload hx hb dX0_asBegun_47 (lv_at hl 0 rfl) ?_
      cases hF
      exact m_iret X hp dX0_asBegun_49
    · have hF := if_n c20 hF
      refine lv_iconst (v := 1) hx hb dX0_asBegun_40 (by decide) ?_
      refine lv_iload hx hb dX0_asBegun_41 (lv_at hl 0 rfl) ?_
      refine lv_isub hx hb dX0_asBegun_43 ?_
      refine lv_goto (tgt := 49) hx hb dX0_asBegun_44 (by decide) ?_
      cases hF
      exact m_iret X hp dX0_asBegun_49
end
section
variable {l : Launch} {D : va_G} {n0 : Nat} {P : mP} {S : mSh} {M : mMm} {n : Nat} {p : Program} {e : Env} {s : State} {m : MethodId} {args : Array Value} {below : List Frame} {meth : Method} {c : Code}
abbrev Rm_X0_bent : Room := { frames := 0, cells := 0, slots := 0, locals := 0 }
def fb_X0_bent_43 (x3 : Int32) (y0 : Int32) (y1 : Int32) : Option Int32 := nm ((y1 + y0)) fun v7 => (if x3 < 0 then some (-1 : Int32) else (if 0 ≤ v7 then some (((61 : Int32) * v7) + x3) else some (-1 : Int32)))
theorem b_X0_bent_43 {r : Int32} (X : mCx D n0 P p m c cX0_bent 5 s args yX0_bent.cls meth (some .int)) : ∀ (x3 : Int32) (y0 : Int32) (y1 : Int32) (H : Heap) (locs : List Loc) (ls : Array Slot), mHp D n0 S M n s H locs → lv_has ls 5 [(3, .int x3)] → fb_X0_bent_43 x3 y0 y1 = some r → W p l e Rm_X0_bent s m args below meth c H locs 0 0 (MQ below (mQ D n0 (some (.int r)) S M n) args s 0 0 (mA n0)) (F0 m 43 ls [.int y0, .int y1]) := by
  have hx := X.1.1
  have hb := X.1.2.1
  have hown := X.1.2.2.2.1
  have hts := X.1.2.2.2.2
  intro x3 y0 y1 H locs ls hp hl hF
  unfold fb_X0_bent_43 at hF
  refine lv_iadd hx hb dX0_bent_43 ?_
  refine lv_topi (fun v7 ev8 => ?_)
  have hF := nm_s hF ev8
  refine lv_istore (lv' := [(4, .int v7), (3, .int x3)]) hx hb dX0_bent_44 hl (by decide) rfl (fun ls hl => ?_)
  refine lv_iload_n hx hb dX0_bent_46 rfl (lv_at hl 1 rfl) ?_
  refine lv_if_lt (tgt := 55) hx hb dX0_bent_47 (by decide) (fun c9 => ?_) (fun c9 => ?_)
  · have hF := if_p c9 hF
    refine lv_iconst (v := -1) hx hb dX0_bent_55 (by decide) ?_
    refine lv_goto (tgt := 66) hx hb dX0_bent_56 (by decide) ?_
    cases hF
    exact m_iret X hp dX0_bent_66
  · have hF := if_n c9 hF
    refine lv_iload hx hb dX0_bent_50 (lv_at hl 0 rfl) ?_
    refine lv_if_ge (tgt := 59) hx hb dX0_bent_52 (by decide) (fun c10 => ?_) (fun c10 => ?_)
    · have hF := if_p c10 hF
      refine lv_bipush (v := 61) hx hb dX0_bent_59 (by decide) ?_
      refine lv_iload hx hb dX0_bent_61 (lv_at hl 0 rfl) ?_
      refine lv_imul hx hb dX0_bent_63 ?_
      refine lv_iload_n hx hb dX0_bent_64 rfl (lv_at hl 1 rfl) ?_
      refine lv_iadd hx hb dX0_bent_65 ?_
      cases hF
      exact m_iret X hp dX0_bent_66
    · have hF := if_n c10 hF
      refine lv_iconst (v := -1) hx hb dX0_bent_55 (by decide) ?_
      refine lv_goto (tgt := 66) hx hb dX0_bent_56 (by decide) ?_
      cases hF
      exact m_iret X hp dX0_bent_66
def fb_X0_bent_21 (x1 : Int32) (x2 : Int32) (y0 : Int32) (y1 : Int32) : Option Int32 := nm ((y1 + y0)) fun v3 => (if x2 = 0 then (fb_X0_bent_43 v3 (1 : Int32) x1) else (if x2 = (1 : Int32) then (fb_X0_bent_43 v3 (-1 : Int32) x1) else (fb_X0_bent_43 v3 (-2 : Int32) x1)))
theorem b_X0_bent_21 {r : Int32} (X : mCx D n0 P p m c cX0_bent 5 s args yX0_bent.cls meth (some .int)) : ∀ (x1 : Int32) (x2 : Int32) (y0 : Int32) (y1 : Int32) (H : Heap) (locs : List Loc) (ls : Array Slot), mHp D n0 S M n s H locs → lv_has ls 5 [(1, .int x1), (2, .int x2)] → fb_X0_bent_21 x1 x2 y0 y1 = some r → W p l e Rm_X0_bent s m args below meth c H locs 0 0 (MQ below (mQ D n0 (some (.int r)) S M n) args s 0 0 (mA n0)) (F0 m 21 ls [.int y0, .int y1]) := by
  have hx := X.1.1
  have hb := X.1.2.1
  have hown := X.1.2.2.2.1
  have hts := X.1.2.2.2.2
  intro x1 x2 y0 y1 H locs ls hp hl hF
  unfold fb_X0_bent_21 at hF
  refine lv_iadd hx hb dX0_bent_21 ?_
  refine lv_topi (fun v3 ev4 => ?_)
  have hF := nm_s hF ev4
  refine lv_istore_n (lv' := [(3, .int v3), (1, .int x1), (2, .int x2)]) hx hb dX0_bent_22 rfl hl (by decide) rfl (fun ls hl => ?_)
  refine lv_iload_n hx hb dX0_bent_23 rfl (lv_at hl 1 rfl) ?_
  refine lv_iload_n hx hb dX0_bent_24 rfl (lv_at hl 2 rfl) ?_
  refine lv_if_ne (tgt := 32) hx hb dX0_bent_25 (by decide) (fun c5 => ?_) (fun c5 => ?_)
  · have hF := if_n c5 hF
    refine lv_iload_n hx hb dX0_bent_32 rfl (lv_at hl 2 rfl) ?_
    refine lv_iconst (v := 1) hx hb dX0_bent_33 (by decide) ?_
    refine lv_icmp_ne (tgt := 41) hx hb dX0_bent_34 (by decide) (fun c6 => ?_) (fun c6 => ?_)
    · have hF := if_n c6 hF
      refine lv_bipush (v := -2) hx hb dX0_bent_41 (by decide) ?_
      exact b_X0_bent_43 X _ _ _ _ _ _ hp (lv_sub hl [0] rfl) hF
    · have hF := if_p c6 hF
      refine lv_iconst (v := -1) hx hb dX0_bent_37 (by decide) ?_
      refine lv_goto (tgt := 43) hx hb dX0_bent_38 (by decide) ?_
      exact b_X0_bent_43 X _ _ _ _ _ _ hp (lv_sub hl [0] rfl) hF
  · have hF := if_p c5 hF
    refine lv_iconst (v := 1) hx hb dX0_bent_28 (by decide) ?_
    refine lv_goto (tgt := 43) hx hb dX0_bent_29 (by decide) ?_
    exact b_X0_bent_43 X _ _ _ _ _ _ hp (lv_sub hl [0] rfl) hF
def f_X0_bent (x0 : Int32) (x1 : Int32) (x2 : Int32) : Option Int32 := (if (2 : Int32) ≤ x2 then (if x2 = (2 : Int32) then (fb_X0_bent_21 x1 x2 (1 : Int32) x0) else (fb_X0_bent_21 x1 x2 (-1 : Int32) x0)) else (fb_X0_bent_21 x1 x2 (-2 : Int32) x0))
theorem w_X0_bent {x0 : Int32} {x1 : Int32} {x2 : Int32} {r : Int32} (hF : f_X0_bent x0 x1 x2 = some r) : mCt l D n0 P yX0_bent cX0_bent 5 (some .int) 0 0 0 0 [.int x0, .int x1, .int x2] S M n (some (.int r)) S M n := by
  refine m_ofW (by decide) (Nat.le_of_ble_eq_true rfl) (fun p e s m below meth c X hnm hp ls hl => ?_)
  have hx := X.1.1
  have hb := X.1.2.1
  have hown := X.1.2.2.2.1
  have hts := X.1.2.2.2.2
  have hl : lv_has ls 5 [(0, .int x0), (1, .int x1), (2, .int x2)] := hl
  unfold f_X0_bent at hF
  refine lv_iload_n hx hb dX0_bent_0 rfl (lv_at hl 0 rfl) ?_
  refine lv_iload_n hx hb dX0_bent_1 rfl (lv_at hl 2 rfl) ?_
  refine lv_iconst (v := 2) hx hb dX0_bent_2 (by decide) ?_
  refine lv_icmp_ge (tgt := 11) hx hb dX0_bent_3 (by decide) (fun c1 => ?_) (fun c1 => ?_)
  · have hF := if_p c1 hF
    refine lv_iload_n hx hb dX0_bent_11 rfl (lv_at hl 2 rfl) ?_
    refine lv_iconst (v := 2) hx hb dX0_bent_12 (by decide) ?_
    refine lv_icmp_ne (tgt := 20) hx hb dX0_bent_13 (by decide) (fun c2 => ?_) (fun c2 => ?_)
    · have hF := if_n c2 hF
      refine lv_iconst (v := -1) hx hb dX0_bent_20 (by decide) ?_
      exact b_X0_bent_21 X _ _ _ _ _ _ _ hp (lv_sub hl [1, 2] rfl) hF
    · have hF := if_p c2 hF
      refine lv_iconst (v := 1) hx hb dX0_bent_16 (by decide) ?_
      refine lv_goto (tgt := 21) hx hb dX0_bent_17 (by decide) ?_
      exact b_X0_bent_21 X _ _ _ _ _ _ _ hp (lv_sub hl [1, 2] rfl) hF
  · have hF := if_n c1 hF
    refine lv_bipush (v := -2) hx hb dX0_bent_6 (by decide) ?_
    refine lv_goto (tgt := 21) hx hb dX0_bent_8 (by decide) ?_
    exact b_X0_bent_21 X _ _ _ _ _ _ _ hp (lv_sub hl [1, 2] rfl) hF
end
section
variable {l : Launch} {D : va_G} {n0 : Nat} {P : mP} {S : mSh} {M : mMm} {n : Nat} {p : Program} {e : Env} {s : State} {m : MethodId} {args : Array Value} {below : List Frame} {meth : Method} {c : Code}
abbrev Rm_X0_beside : Room := { frames := 3, cells := 0, slots := 0, locals := 66 }
def fb_X0_beside_36 (S : mSh) (M : mMm) (k4 : Nat → Int32 → Int32 → Int32 → Option Int32) (x0 : Nat) (x1 : Int32) (x3 : Int32) (y0 : Int32) (y1 : Int32) : Option Int32 := nm ((y1 + y0)) fun v15 => nm (x3 + (1 : Int32)) fun v17 => (k4 x0 x1 v15 v17)
theorem b_X0_beside_36 {r : Int32} (X : mCx D n0 P p m c cX0_beside 4 s args yX0_beside.cls meth (some .int)) (k4 : Nat → Int32 → Int32 → Int32 → Option Int32) (hk4 : ∀ (x0 : Nat) (x1 : Int32) (x2 : Int32) (x3 : Int32) (H : Heap) (locs : List Loc) (ls : Array Slot), mHp D n0 S M n s H locs → lv_has ls 4 [(0, .ref x0), (1, .int x1), (2, .int x2), (3, .int x3)] → k4 x0 x1 x2 x3 = some r → W p l e Rm_X0_beside s m args below meth c H locs 0 0 (MQ below (mQ D n0 (some (.int r)) S M n) args s 0 0 (mA n0)) (F0 m 4 ls [])) : ∀ (x0 : Nat) (x1 : Int32) (x3 : Int32) (y0 : Int32) (y1 : Int32) (H : Heap) (locs : List Loc) (ls : Array Slot), mHp D n0 S M n s H locs → lv_has ls 4 [(0, .ref x0), (1, .int x1), (3, .int x3)] → fb_X0_beside_36 S M k4 x0 x1 x3 y0 y1 = some r → W p l e Rm_X0_beside s m args below meth c H locs 0 0 (MQ below (mQ D n0 (some (.int r)) S M n) args s 0 0 (mA n0)) (F0 m 36 ls [.int y0, .int y1]) := by
  have hx := X.1.1
  have hb := X.1.2.1
  have hown := X.1.2.2.2.1
  have hts := X.1.2.2.2.2
  intro x0 x1 x3 y0 y1 H locs ls hp hl hF
  unfold fb_X0_beside_36 at hF
  refine lv_iadd hx hb dX0_beside_36 ?_
  refine lv_topi (fun v15 ev16 => ?_)
  have hF := nm_s hF ev16
  refine lv_istore_n (lv' := [(2, .int v15), (0, .ref x0), (1, .int x1), (3, .int x3)]) hx hb dX0_beside_37 rfl hl (by decide) rfl (fun ls hl => ?_)
  obtain ⟨v17, ev18⟩ : ∃ y : Int32, y = x3 + (1 : Int32) := ⟨_, rfl⟩
  have hF := nm_s hF ev18
  refine lv_iinc (v := v17) (lv' := [(3, .int v17), (2, .int v15), (0, .ref x0), (1, .int x1)]) hx hb dX0_beside_38 hl (k := 3) rfl (by rw [ev18]; rfl) (by decide) rfl (fun ls hl => ?_)
  refine lv_goto (tgt := 4) hx hb dX0_beside_41 (by decide) ?_
  exact hk4 _ _ _ _ _ _ _ hp (lv_sub hl [2, 3, 1, 0] rfl) hF
def fb_X0_beside_4 (S : mSh) (M : mMm) : Nat → Nat → Int32 → Int32 → Int32 → Option Int32
  | 0, _, _, _, _ => none
  | t + 1, x0, x1, x2, x3 => (if (4 : Int32) ≤ x3 then some x2 else ob (f_X0_on x1 x3) fun v7 => (if v7 = (-1 : Int32) then (fb_X0_beside_36 S M (fb_X0_beside_4 S M t) x0 x1 x3 (0 : Int32) x2) else ob (f_X0_on x1 x3) fun v10 => gd ((S x0).1 = 1) (ob (f_X0_isOpen S M x0 v10) fun v13 => (if v13 = 0 then (fb_X0_beside_36 S M (fb_X0_beside_4 S M t) x0 x1 x3 (0 : Int32) x2) else (fb_X0_beside_36 S M (fb_X0_beside_4 S M t) x0 x1 x3 (1 : Int32) x2)))))
theorem b_X0_beside_4 {r : Int32} (X : mCx D n0 P p m c cX0_beside 4 s args yX0_beside.cls meth (some .int)) : ∀ t : Nat, ∀ (x0 : Nat) (x1 : Int32) (x2 : Int32) (x3 : Int32) (H : Heap) (locs : List Loc) (ls : Array Slot), mHp D n0 S M n s H locs → lv_has ls 4 [(0, .ref x0), (1, .int x1), (2, .int x2), (3, .int x3)] → fb_X0_beside_4 S M t x0 x1 x2 x3 = some r → W p l e Rm_X0_beside s m args below meth c H locs 0 0 (MQ below (mQ D n0 (some (.int r)) S M n) args s 0 0 (mA n0)) (F0 m 4 ls []) := by
  have hx := X.1.1
  have hb := X.1.2.1
  have hown := X.1.2.2.2.1
  have hts := X.1.2.2.2.2
  intro t
  induction t with
  | zero =>
    intro x0 x1 x2 x3 H locs ls hp hl hF
    have hF : none = some r := hF
    cases hF
  | succ t ih =>
    intro x0 x1 x2 x3 H locs ls hp hl hF
    rw [fb_X0_beside_4] at hF
    refine lv_iload_n hx hb dX0_beside_4 rfl (lv_at hl 3 rfl) ?_
    refine lv_iconst (v := 4) hx hb dX0_beside_5 (by decide) ?_
    refine lv_icmp_ge (tgt := 44) hx hb dX0_beside_6 (by decide) (fun c5 => ?_) (fun c5 => ?_)
    · have hF := if_p c5 hF
      refine lv_iload_n hx hb dX0_beside_44 rfl (lv_at hl 2 rfl) ?_
      cases hF
      exact m_iret X hp dX0_beside_45
    · have hF := if_n c5 hF
      refine lv_iload_n hx hb dX0_beside_9 rfl (lv_at hl 2 rfl) ?_
      refine lv_iload_n hx hb dX0_beside_10 rfl (lv_at hl 1 rfl) ?_
      refine lv_iload_n hx hb dX0_beside_11 rfl (lv_at hl 3 rfl) ?_
      obtain ⟨v7, e6, hF⟩ := ob_s hF
      refine m_callS (As := [.int x1, .int x3]) (rest := [.int x2]) X hp (w_X0_on e6) q1241 q1103 q132 q1104 2 rfl ds_X0_on ⟨Nat.le_of_ble_eq_true rfl, Nat.le_of_ble_eq_true rfl⟩ hl.1 rfl (Nat.le_of_ble_eq_true rfl) dX0_beside_12 ⟨Nat.le_refl 0, Nat.le_refl 0⟩ (fun H locs hp => ?_)
      refine lv_iconst (v := -1) hx hb dX0_beside_15 (by decide) ?_
      refine lv_icmp_eq (tgt := 35) hx hb dX0_beside_16 (by decide) (fun c8 => ?_) (fun c8 => ?_)
      · have hF := if_p c8 hF
        refine lv_iconst (v := 0) hx hb dX0_beside_35 (by decide) ?_
        exact b_X0_beside_36 X _ ih _ _ _ _ _ _ _ _ hp (lv_sub hl [0, 1, 3] rfl) hF
      · have hF := if_n c8 hF
        refine lv_aload_n hx hb dX0_beside_19 rfl (lv_at hl 0 rfl) ?_
        refine lv_iload_n hx hb dX0_beside_20 rfl (lv_at hl 1 rfl) ?_
        refine lv_iload_n hx hb dX0_beside_21 rfl (lv_at hl 3 rfl) ?_
        obtain ⟨v10, e9, hF⟩ := ob_s hF
        refine m_callS (As := [.int x1, .int x3]) (rest := [.ref x0, .int x2]) X hp (w_X0_on e9) q1241 q1103 q132 q1104 2 rfl ds_X0_on ⟨Nat.le_of_ble_eq_true rfl, Nat.le_of_ble_eq_true rfl⟩ hl.1 rfl (Nat.le_of_ble_eq_true rfl) dX0_beside_22 ⟨Nat.le_refl 0, Nat.le_refl 0⟩ (fun H locs hp => ?_)
        obtain ⟨g11, hF⟩ := gd_s hF
        obtain ⟨v13, e12, hF⟩ := ob_s hF
        refine m_callV (As := [.int v10]) (rest := [.int x2]) X hp (w_X0_isOpen e12) q1228 q1230 qs41 q132 q1231 1 rfl ds_X0_isOpen ⟨Nat.le_of_ble_eq_true rfl, Nat.le_of_ble_eq_true rfl⟩ 1 (T := TX0) (N := 30) rfl (by decide) g11 hl.1 rfl (Nat.le_of_ble_eq_true rfl) dX0_beside_25 ⟨Nat.le_refl 0, Nat.le_refl 0⟩ (fun H locs hp => ?_)
        refine lv_if_eq (tgt := 35) hx hb dX0_beside_28 (by decide) (fun c14 => ?_) (fun c14 => ?_)
        · have hF := if_p c14 hF
          refine lv_iconst (v := 0) hx hb dX0_beside_35 (by decide) ?_
          exact b_X0_beside_36 X _ ih _ _ _ _ _ _ _ _ hp (lv_sub hl [0, 1, 3] rfl) hF
        · have hF := if_n c14 hF
          refine lv_iconst (v := 1) hx hb dX0_beside_31 (by decide) ?_
          refine lv_goto (tgt := 36) hx hb dX0_beside_32 (by decide) ?_
          exact b_X0_beside_36 X _ ih _ _ _ _ _ _ _ _ hp (lv_sub hl [0, 1, 3] rfl) hF
def f_X0_beside (S : mSh) (M : mMm) (x0 : Nat) (x1 : Int32) : Option Int32 := nm ((0 : Int32)) fun v1 => nm ((0 : Int32)) fun v3 => (fb_X0_beside_4 S M FU x0 x1 v1 v3)
theorem w_X0_beside {x0 : Nat} {x1 : Int32} {r : Int32} (hF : f_X0_beside S M x0 x1 = some r) : mCt l D n0 P yX0_beside cX0_beside 4 (some .int) 3 66 0 0 [.ref x0, .int x1] S M n (some (.int r)) S M n := by
  refine m_ofW (by decide) (Nat.le_of_ble_eq_true rfl) (fun p e s m below meth c X hnm hp ls hl => ?_)
  have hx := X.1.1
  have hb := X.1.2.1
  have hown := X.1.2.2.2.1
  have hts := X.1.2.2.2.2
  have hl : lv_has ls 4 [(0, .ref x0), (1, .int x1)] := hl
  unfold f_X0_beside at hF
  refine lv_iconst (v := 0) hx hb dX0_beside_0 (by decide) ?_
  refine lv_topi (fun v1 ev2 => ?_)
  have hF := nm_s hF ev2
  refine lv_istore_n (lv' := [(2, .int v1), (0, .ref x0), (1, .int x1)]) hx hb dX0_beside_1 rfl hl (by decide) rfl (fun ls hl => ?_)
  refine lv_iconst (v := 0) hx hb dX0_beside_2 (by decide) ?_
  refine lv_topi (fun v3 ev4 => ?_)
  have hF := nm_s hF ev4
  refine lv_istore_n (lv' := [(3, .int v3), (2, .int v1), (0, .ref x0), (1, .int x1)]) hx hb dX0_beside_3 rfl hl (by decide) rfl (fun ls hl => ?_)
  exact b_X0_beside_4 X _ _ _ _ _ _ _ _ hp (lv_sub hl [2, 3, 1, 0] rfl) hF
end
section
variable {l : Launch} {D : va_G} {n0 : Nat} {P : mP} {S : mSh} {M : mMm} {n : Nat} {p : Program} {e : Env} {s : State} {m : MethodId} {args : Array Value} {below : List Frame} {meth : Method} {c : Code}
abbrev Rm_X0_book : Room := { frames := 1, cells := 0, slots := 0, locals := 22 }
def f_X0_book (S : mSh) (M : mMm) (x0 : Nat) (x1 : Int32) (x2 : Int32) : Option Int32 := ob (rR S M x0 1 4) fun v1 => ob (rI S M v1 2 14) fun v3 => ob (f_X0_isIn x1 (0 : Int32) (v3 - (1 : Int32))) fun v6 => (if v6 = 0 then some (-1 : Int32) else ob (f_X0_isIn x2 (0 : Int32) (3 : Int32)) fun v9 => (if v9 = 0 then some (-1 : Int32) else ob (rR S M x0 1 4) fun v11 => ob (rR S M v11 2 3) fun v13 => ob (aR S M v13 108 x1) fun v15 => ob (aI S M v15 100 x2) fun v17 => some v17))
theorem w_X0_book {x0 : Nat} {x1 : Int32} {x2 : Int32} {r : Int32} (hF : f_X0_book S M x0 x1 x2 = some r) : mCt l D n0 P yX0_book cX0_book 3 (some .int) 1 22 0 0 [.ref x0, .int x1, .int x2] S M n (some (.int r)) S M n := by
  refine m_ofW (by decide) (Nat.le_of_ble_eq_true rfl) (fun p e s m below meth c X hnm hp ls hl => ?_)
  have hx := X.1.1
  have hb := X.1.2.1
  have hown := X.1.2.2.2.1
  have hts := X.1.2.2.2.2
  have hl : lv_has ls 3 [(0, .ref x0), (1, .int x1), (2, .int x2)] := hl
  unfold f_X0_book at hF
  refine lv_iload_n hx hb dX0_book_0 rfl (lv_at hl 1 rfl) ?_
  refine lv_iconst (v := 0) hx hb dX0_book_1 (by decide) ?_
  refine lv_aload_n hx hb dX0_book_2 rfl (lv_at hl 0 rfl) ?_
  obtain ⟨v1, e2, hF⟩ := ob_s hF
  refine m_getR X hp e2 kX0 (Nat.le_of_ble_eq_true rfl) q463 dX0_book_3 ?_
  obtain ⟨v3, e4, hF⟩ := ob_s hF
  refine m_getIN X hp e4 kX1 (Nat.le_of_ble_eq_true rfl) q405 dX0_book_6 ?_
  refine lv_iconst (v := 1) hx hb dX0_book_9 (by decide) ?_
  refine lv_isub hx hb dX0_book_10 ?_
  obtain ⟨v6, e5, hF⟩ := ob_s hF
  refine m_callS (As := [.int x1, .int (0 : Int32), .int (v3 - (1 : Int32))]) (rest := []) X hp (w_X0_isIn e5) q565 q566 q132 q567 3 rfl ds_X0_isIn ⟨Nat.le_of_ble_eq_true rfl, Nat.le_of_ble_eq_true rfl⟩ hl.1 rfl (Nat.le_of_ble_eq_true rfl) dX0_book_11 ⟨Nat.le_refl 0, Nat.le_refl 0⟩ (fun H locs hp => ?_)
  refine lv_if_eq (tgt := 40) hx hb dX0_book_14 (by decide) (fun c7 => ?_) (fun c7 => ?_)
  · have hF := if_p c7 hF
    refine lv_iconst (v := -1) hx hb dX0_book_40 (by decide) ?_
    cases hF
    exact m_iret X hp dX0_book_41
  · have hF := if_n c7 hF
    refine lv_iload_n hx hb dX0_book_17 rfl (lv_at hl 2 rfl) ?_
    refine lv_iconst (v := 0) hx hb dX0_book_18 (by decide) ?_
    refine lv_iconst (v := 3) hx hb dX0_book_19 (by decide) ?_
    obtain ⟨v9, e8, hF⟩ := ob_s hF
    refine m_callS (As := [.int x2, .int (0 : Int32), .int (3 : Int32)]) (rest := []) X hp (w_X0_isIn e8) q565 q566 q132 q567 3 rfl ds_X0_isIn ⟨Nat.le_of_ble_eq_true rfl, Nat.le_of_ble_eq_true rfl⟩ hl.1 rfl (Nat.le_of_ble_eq_true rfl) dX0_book_20 ⟨Nat.le_refl 0, Nat.le_refl 0⟩ (fun H locs hp => ?_)
    refine lv_if_eq (tgt := 40) hx hb dX0_book_23 (by decide) (fun c10 => ?_) (fun c10 => ?_)
    · have hF := if_p c10 hF
      refine lv_iconst (v := -1) hx hb dX0_book_40 (by decide) ?_
      cases hF
      exact m_iret X hp dX0_book_41
    · have hF := if_n c10 hF
      refine lv_aload_n hx hb dX0_book_26 rfl (lv_at hl 0 rfl) ?_
      obtain ⟨v11, e12, hF⟩ := ob_s hF
      refine m_getR X hp e12 kX0 (Nat.le_of_ble_eq_true rfl) q463 dX0_book_27 ?_
      obtain ⟨v13, e14, hF⟩ := ob_s hF
      refine m_getRN X hp e14 kX1 (Nat.le_of_ble_eq_true rfl) q382 dX0_book_30 ?_
      refine lv_iload_n hx hb dX0_book_33 rfl (lv_at hl 1 rfl) ?_
      obtain ⟨v15, e16, hF⟩ := ob_s hF
      refine m_aaR 108 X hp e16 rfl (by decide) rfl dX0_book_34 ?_
      refine lv_iload_n hx hb dX0_book_35 rfl (lv_at hl 2 rfl) ?_
      obtain ⟨v17, e18, hF⟩ := ob_s hF
      refine m_iaI X hp e18 dX0_book_36 ?_
      refine lv_goto (tgt := 41) hx hb dX0_book_37 (by decide) ?_
      cases hF
      exact m_iret X hp dX0_book_41
end
section
variable {l : Launch} {D : va_G} {n0 : Nat} {P : mP} {S : mSh} {M : mMm} {n : Nat} {p : Program} {e : Env} {s : State} {m : MethodId} {args : Array Value} {below : List Frame} {meth : Method} {c : Code}
abbrev Rm_X0_bound : Room := { frames := 1, cells := 0, slots := 0, locals := 21 }
def f_X0_bound (x0 : Int32) (x1 : Int32) (x2 : Int32) : Option Int32 := ob (f_J4_min x2 x0) fun v2 => ob (f_J4_max x1 v2) fun v4 => some v4
theorem w_X0_bound {x0 : Int32} {x1 : Int32} {x2 : Int32} {r : Int32} (hF : f_X0_bound x0 x1 x2 = some r) : mCt l D n0 P yX0_bound cX0_bound 3 (some .int) 1 21 0 0 [.int x0, .int x1, .int x2] S M n (some (.int r)) S M n := by
  refine m_ofW (by decide) (Nat.le_of_ble_eq_true rfl) (fun p e s m below meth c X hnm hp ls hl => ?_)
  have hx := X.1.1
  have hb := X.1.2.1
  have hown := X.1.2.2.2.1
  have hts := X.1.2.2.2.2
  have hl : lv_has ls 3 [(0, .int x0), (1, .int x1), (2, .int x2)] := hl
  unfold f_X0_bound at hF
  refine lv_iload_n hx hb dX0_bound_0 rfl (lv_at hl 1 rfl) ?_
  refine lv_iload_n hx hb dX0_bound_1 rfl (lv_at hl 2 rfl) ?_
  refine lv_iload_n hx hb dX0_bound_2 rfl (lv_at hl 0 rfl) ?_
  obtain ⟨v2, e1, hF⟩ := ob_s hF
  refine m_callS (As := [.int x2, .int x0]) (rest := [.int x1]) X hp (w_J4_min e1) q1169 q368 q141 q369 2 rfl ds_J4_min ⟨Nat.le_of_ble_eq_true rfl, Nat.le_of_ble_eq_true rfl⟩ hl.1 rfl (Nat.le_of_ble_eq_true rfl) dX0_bound_3 ⟨Nat.le_refl 0, Nat.le_refl 0⟩ (fun H locs hp => ?_)
  obtain ⟨v4, e3, hF⟩ := ob_s hF
  refine m_callS (As := [.int x1, .int v2]) (rest := []) X hp (w_J4_max e3) q1170 q333 q141 q334 2 rfl ds_J4_max ⟨Nat.le_of_ble_eq_true rfl, Nat.le_of_ble_eq_true rfl⟩ hl.1 rfl (Nat.le_of_ble_eq_true rfl) dX0_bound_6 ⟨Nat.le_refl 0, Nat.le_refl 0⟩ (fun H locs hp => ?_)
  cases hF
  exact m_iret X hp dX0_bound_9
end
section
variable {l : Launch} {D : va_G} {n0 : Nat} {P : mP} {S : mSh} {M : mMm} {n : Nat} {p : Program} {e : Env} {s : State} {m : MethodId} {args : Array Value} {below : List Frame} {meth : Method} {c : Code}
abbrev Rm_X0_canAsk : Room := { frames := 2, cells := 0, slots := 0, locals := 43 }
def f_X0_canAsk (S : mSh) (M : mMm) (x0 : Nat) (x1 : Int32) (x2 : Int32) (x3 : Int32) : Option Int32 := gd ((S x0).1 = 1) (ob (f_X0_isOpen S M x0 x1) fun v3 => (if v3 = 0 then some (0 : Int32) else ob (f_X0_isOpen S M x0 x3) fun v6 => (if v6 = 0 then some (0 : Int32) else ob (f_X0_isIn x2 (0 : Int32) (3 : Int32)) fun v9 => (if v9 = 0 then some (0 : Int32) else some (1 : Int32)))))
theorem w_X0_canAsk {x0 : Nat} {x1 : Int32} {x2 : Int32} {x3 : Int32} {r : Int32} (hF : f_X0_canAsk S M x0 x1 x2 x3 = some r) : mCt l D n0 P yX0_canAsk cX0_canAsk 4 (some .boolean) 2 43 0 0 [.ref x0, .int x1, .int x2, .int x3] S M n (some (.int r)) S M n := by
  refine m_ofW (by decide) (Nat.le_of_ble_eq_true rfl) (fun p e s m below meth c X hnm hp ls hl => ?_)
  have hx := X.1.1
  have hb := X.1.2.1
  have hown := X.1.2.2.2.1
  have hts := X.1.2.2.2.2
  have hl : lv_has ls 4 [(0, .ref x0), (1, .int x1), (2, .int x2), (3, .int x3)] := hl
  unfold f_X0_canAsk at hF
  refine lv_aload_n hx hb dX0_canAsk_0 rfl (lv_at hl 0 rfl) ?_
  refine lv_iload_n hx hb dX0_canAsk_1 rfl (lv_at hl 1 rfl) ?_
  obtain ⟨g1, hF⟩ := gd_s hF
  obtain ⟨v3, e2, hF⟩ := ob_s hF
  refine m_callV (As := [.int x1]) (rest := []) X hp (w_X0_isOpen e2) q1228 q1230 qs41 q132 q1231 1 rfl ds_X0_isOpen ⟨Nat.le_of_ble_eq_true rfl, Nat.le_of_ble_eq_true rfl⟩ 1 (T := TX0) (N := 30) rfl (by decide) g1 hl.1 rfl (Nat.le_of_ble_eq_true rfl) dX0_canAsk_2 ⟨Nat.le_refl 0, Nat.le_refl 0⟩ (fun H locs hp => ?_)
  refine lv_if_eq (tgt := 29) hx hb dX0_canAsk_5 (by decide) (fun c4 => ?_) (fun c4 => ?_)
  · have hF := if_p c4 hF
    refine lv_iconst (v := 0) hx hb dX0_canAsk_29 (by decide) ?_
    cases hF
    exact m_zret X hp rfl dX0_canAsk_30
  · have hF := if_n c4 hF
    refine lv_aload_n hx hb dX0_canAsk_8 rfl (lv_at hl 0 rfl) ?_
    refine lv_iload_n hx hb dX0_canAsk_9 rfl (lv_at hl 3 rfl) ?_
    obtain ⟨v6, e5, hF⟩ := ob_s hF
    refine m_callV (As := [.int x3]) (rest := []) X hp (w_X0_isOpen e5) q1228 q1230 qs41 q132 q1231 1 rfl ds_X0_isOpen ⟨Nat.le_of_ble_eq_true rfl, Nat.le_of_ble_eq_true rfl⟩ 1 (T := TX0) (N := 30) rfl (by decide) g1 hl.1 rfl (Nat.le_of_ble_eq_true rfl) dX0_canAsk_10 ⟨Nat.le_refl 0, Nat.le_refl 0⟩ (fun H locs hp => ?_)
    refine lv_if_eq (tgt := 29) hx hb dX0_canAsk_13 (by decide) (fun c7 => ?_) (fun c7 => ?_)
    · have hF := if_p c7 hF
      refine lv_iconst (v := 0) hx hb dX0_canAsk_29 (by decide) ?_
      cases hF
      exact m_zret X hp rfl dX0_canAsk_30
    · have hF := if_n c7 hF
      refine lv_iload_n hx hb dX0_canAsk_16 rfl (lv_at hl 2 rfl) ?_
      refine lv_iconst (v := 0) hx hb dX0_canAsk_17 (by decide) ?_
      refine lv_iconst (v := 3) hx hb dX0_canAsk_18 (by decide) ?_
      obtain ⟨v9, e8, hF⟩ := ob_s hF
      refine m_callS (As := [.int x2, .int (0 : Int32), .int (3 : Int32)]) (rest := []) X hp (w_X0_isIn e8) q565 q566 q132 q567 3 rfl ds_X0_isIn ⟨Nat.le_of_ble_eq_true rfl, Nat.le_of_ble_eq_true rfl⟩ hl.1 rfl (Nat.le_of_ble_eq_true rfl) dX0_canAsk_19 ⟨Nat.le_refl 0, Nat.le_refl 0⟩ (fun H locs hp => ?_)
      refine lv_if_eq (tgt := 29) hx hb dX0_canAsk_22 (by decide) (fun c10 => ?_) (fun c10 => ?_)
      · have hF := if_p c10 hF
        refine lv_iconst (v := 0) hx hb dX0_canAsk_29 (by decide) ?_
        cases hF
        exact m_zret X hp rfl dX0_canAsk_30
      · have hF := if_n c10 hF
        refine lv_iconst (v := 1) hx hb dX0_canAsk_25 (by decide) ?_
        refine lv_goto (tgt := 30) hx hb dX0_canAsk_26 (by decide) ?_
        cases hF
        exact m_zret X hp rfl dX0_canAsk_30
end
section
variable {l : Launch} {D : va_G} {n0 : Nat} {P : mP} {S : mSh} {M : mMm} {n : Nat} {p : Program} {e : Env} {s : State} {m : MethodId} {args : Array Value} {below : List Frame} {meth : Method} {c : Code}
abbrev Rm_X1_standing : Room := { frames := 0, cells := 0, slots := 0, locals := 0 }
def fb_X1_standing_2 (S : mSh) (M : mMm) : Nat → Nat → Int32 → Int32 → Option Int32
  | 0, _, _, _ => none
  | t + 1, x0, x1, x2 => ob (rI S M x0 2 10) fun v3 => (if v3 ≤ x2 then some (-1 : Int32) else ob (rR S M x0 2 1) fun v6 => ob (aR S M v6 104 x2) fun v8 => ob (rI S M v8 5 1) fun v10 => (if v10 = x1 then some x2 else nm (x2 + (1 : Int32)) fun v13 => (fb_X1_standing_2 S M t x0 x1 v13)))
theorem b_X1_standing_2 {r : Int32} (X : mCx D n0 P p m c cX1_standing 3 s args yX1_standing.cls meth (some .int)) : ∀ t : Nat, ∀ (x0 : Nat) (x1 : Int32) (x2 : Int32) (H : Heap) (locs : List Loc) (ls : Array Slot), mHp D n0 S M n s H locs → lv_has ls 3 [(0, .ref x0), (1, .int x1), (2, .int x2)] → fb_X1_standing_2 S M t x0 x1 x2 = some r → W p l e Rm_X1_standing s m args below meth c H locs 0 0 (MQ below (mQ D n0 (some (.int r)) S M n) args s 0 0 (mA n0)) (F0 m 2 ls []) := by
  have hx := X.1.1
  have hb := X.1.2.1
  have hown := X.1.2.2.2.1
  have hts := X.1.2.2.2.2
  intro t
  induction t with
  | zero =>
    intro x0 x1 x2 H locs ls hp hl hF
    have hF : none = some r := hF
    cases hF
  | succ t ih =>
    intro x0 x1 x2 H locs ls hp hl hF
    rw [fb_X1_standing_2] at hF
    refine lv_iload_n hx hb dX1_standing_2 rfl (lv_at hl 2 rfl) ?_
    refine lv_aload_n hx hb dX1_standing_3 rfl (lv_at hl 0 rfl) ?_
    obtain ⟨v3, e4, hF⟩ := ob_s hF
    refine m_getI X hp e4 kX1 (Nat.le_of_ble_eq_true rfl) q395 dX1_standing_4 ?_
    refine lv_icmp_ge (tgt := 31) hx hb dX1_standing_7 (by decide) (fun c5 => ?_) (fun c5 => ?_)
    · have hF := if_p c5 hF
      refine lv_iconst (v := -1) hx hb dX1_standing_31 (by decide) ?_
      cases hF
      exact m_iret X hp dX1_standing_32
    · have hF := if_n c5 hF
      refine lv_aload_n hx hb dX1_standing_10 rfl (lv_at hl 0 rfl) ?_
      obtain ⟨v6, e7, hF⟩ := ob_s hF
      refine m_getR X hp e7 kX1 (Nat.le_of_ble_eq_true rfl) q377 dX1_standing_11 ?_
      refine lv_iload_n hx hb dX1_standing_14 rfl (lv_at hl 2 rfl) ?_
      obtain ⟨v8, e9, hF⟩ := ob_s hF
      refine m_aaR 104 X hp e9 rfl (by decide) rfl dX1_standing_15 ?_
      obtain ⟨v10, e11, hF⟩ := ob_s hF
      refine m_getIN X hp e11 kX4 (Nat.le_of_ble_eq_true rfl) q255 dX1_standing_16 ?_
      refine lv_iload_n hx hb dX1_standing_19 rfl (lv_at hl 1 rfl) ?_
      refine lv_icmp_ne (tgt := 25) hx hb dX1_standing_20 (by decide) (fun c12 => ?_) (fun c12 => ?_)
      · have hF := if_n c12 hF
        obtain ⟨v13, ev14⟩ : ∃ y : Int32, y = x2 + (1 : Int32) := ⟨_, rfl⟩
        have hF := nm_s hF ev14
        refine lv_iinc (v := v13) (lv' := [(2, .int v13), (0, .ref x0), (1, .int x1)]) hx hb dX1_standing_25 hl (k := 2) rfl (by rw [ev14]; rfl) (by decide) rfl (fun ls hl => ?_)
        refine lv_goto (tgt := 2) hx hb dX1_standing_28 (by decide) ?_
        exact ih _ _ _ _ _ _ hp (lv_sub hl [1, 2, 0] rfl) hF
      · have hF := if_p c12 hF
        refine lv_iload_n hx hb dX1_standing_23 rfl (lv_at hl 2 rfl) ?_
        cases hF
        exact m_iret X hp dX1_standing_24
def f_X1_standing (S : mSh) (M : mMm) (x0 : Nat) (x1 : Int32) : Option Int32 := nm ((0 : Int32)) fun v1 => (fb_X1_standing_2 S M FU x0 x1 v1)
theorem w_X1_standing {x0 : Nat} {x1 : Int32} {r : Int32} (hF : f_X1_standing S M x0 x1 = some r) : mCt l D n0 P yX1_standing cX1_standing 3 (some .int) 0 0 0 0 [.ref x0, .int x1] S M n (some (.int r)) S M n := by
  refine m_ofW (by decide) (Nat.le_of_ble_eq_true rfl) (fun p e s m below meth c X hnm hp ls hl => ?_)
  have hx := X.1.1
  have hb := X.1.2.1
  have hown := X.1.2.2.2.1
  have hts := X.1.2.2.2.2
  have hl : lv_has ls 3 [(0, .ref x0), (1, .int x1)] := hl
  unfold f_X1_standing at hF
  refine lv_iconst (v := 0) hx hb dX1_standing_0 (by decide) ?_
  refine lv_topi (fun v1 ev2 => ?_)
  have hF := nm_s hF ev2
  refine lv_istore_n (lv' := [(2, .int v1), (0, .ref x0), (1, .int x1)]) hx hb dX1_standing_1 rfl hl (by decide) rfl (fun ls hl => ?_)
  exact b_X1_standing_2 X _ _ _ _ _ _ _ hp (lv_sub hl [1, 2, 0] rfl) hF
end
section
variable {l : Launch} {D : va_G} {n0 : Nat} {P : mP} {S : mSh} {M : mMm} {n : Nat} {p : Program} {e : Env} {s : State} {m : MethodId} {args : Array Value} {below : List Frame} {meth : Method} {c : Code}
abbrev Rm_X0_cell : Room := { frames := 2, cells := 0, slots := 0, locals := 43 }
def f_X0_cell (S : mSh) (M : mMm) (x0 : Nat) (x1 : Int32) (x2 : Int32) (x3 : Int32) : Option Int32 := ob (f_X0_isCell x1 x2) fun v2 => (if v2 = 0 then some (-2 : Int32) else ob (f_X0_isIn x3 (0 : Int32) (1 : Int32)) fun v5 => (if v5 = 0 then some (-2 : Int32) else (if x3 = 0 then ob (rR S M x0 1 4) fun v13 => ob (rR S M v13 2 0) fun v15 => ob (aI S M v15 100 (((12 : Int32) * x2) + x1)) fun v17 => some v17 else ob (rR S M x0 1 4) fun v8 => gd ((S v8).1 = 2) (ob (f_X1_standing S M v8 (((12 : Int32) * x2) + x1)) fun v12 => some v12))))
theorem w_X0_cell {x0 : Nat} {x1 : Int32} {x2 : Int32} {x3 : Int32} {r : Int32} (hF : f_X0_cell S M x0 x1 x2 x3 = some r) : mCt l D n0 P yX0_cell cX0_cell 4 (some .int) 2 43 0 0 [.ref x0, .int x1, .int x2, .int x3] S M n (some (.int r)) S M n := by
  refine m_ofW (by decide) (Nat.le_of_ble_eq_true rfl) (fun p e s m below meth c X hnm hp ls hl => ?_)
  have hx := X.1.1
  have hb := X.1.2.1
  have hown := X.1.2.2.2.1
  have hts := X.1.2.2.2.2
  have hl : lv_has ls 4 [(0, .ref x0), (1, .int x1), (2, .int x2), (3, .int x3)] := hl
  unfold f_X0_cell at hF
  refine lv_iload_n hx hb dX0_cell_0 rfl (lv_at hl 1 rfl) ?_
  refine lv_iload_n hx hb dX0_cell_1 rfl (lv_at hl 2 rfl) ?_
  obtain ⟨v2, e1, hF⟩ := ob_s hF
  refine m_callS (As := [.int x1, .int x2]) (rest := []) X hp (w_X0_isCell e1) q1068 q1069 q132 q1070 2 rfl ds_X0_isCell ⟨Nat.le_of_ble_eq_true rfl, Nat.le_of_ble_eq_true rfl⟩ hl.1 rfl (Nat.le_of_ble_eq_true rfl) dX0_cell_2 ⟨Nat.le_refl 0, Nat.le_refl 0⟩ (fun H locs hp => ?_)
  refine lv_if_eq (tgt := 17) hx hb dX0_cell_5 (by decide) (fun c3 => ?_) (fun c3 => ?_)
  · have hF := if_p c3 hF
    refine lv_bipush (v := -2) hx hb dX0_cell_17 (by decide) ?_
    refine lv_goto (tgt := 56) hx hb dX0_cell_19 (by decide) ?_
    cases hF
    exact m_iret X hp dX0_cell_56
  · have hF := if_n c3 hF
    refine lv_iload_n hx hb dX0_cell_8 rfl (lv_at hl 3 rfl) ?_
    refine lv_iconst (v := 0) hx hb dX0_cell_9 (by decide) ?_
    refine lv_iconst (v := 1) hx hb dX0_cell_10 (by decide) ?_
    obtain ⟨v5, e4, hF⟩ := ob_s hF
    refine m_callS (As := [.int x3, .int (0 : Int32), .int (1 : Int32)]) (rest := []) X hp (w_X0_isIn e4) q565 q566 q132 q567 3 rfl ds_X0_isIn ⟨Nat.le_of_ble_eq_true rfl, Nat.le_of_ble_eq_true rfl⟩ hl.1 rfl (Nat.le_of_ble_eq_true rfl) dX0_cell_11 ⟨Nat.le_refl 0, Nat.le_refl 0⟩ (fun H locs hp => ?_)
    refine lv_if_ne (tgt := 22) hx hb dX0_cell_14 (by decide) (fun c6 => ?_) (fun c6 => ?_)
    · have hF := if_n c6 hF
      refine lv_iload_n hx hb dX0_cell_22 rfl (lv_at hl 3 rfl) ?_
      refine lv_if_ne (tgt := 43) hx hb dX0_cell_23 (by decide) (fun c7 => ?_) (fun c7 => ?_)
      · have hF := if_n c7 hF
        refine lv_aload_n hx hb dX0_cell_43 rfl (lv_at hl 0 rfl) ?_
        obtain ⟨v8, e9, hF⟩ := ob_s hF
        refine m_getR X hp e9 kX0 (Nat.le_of_ble_eq_true rfl) q463 dX0_cell_44 ?_
        refine lv_bipush (v := 12) hx hb dX0_cell_47 (by decide) ?_
        refine lv_iload_n hx hb dX0_cell_49 rfl (lv_at hl 2 rfl) ?_
        refine lv_imul hx hb dX0_cell_50 ?_
        refine lv_iload_n hx hb dX0_cell_51 rfl (lv_at hl 1 rfl) ?_
        refine lv_iadd hx hb dX0_cell_52 ?_
        obtain ⟨g10, hF⟩ := gd_s hF
        obtain ⟨v12, e11, hF⟩ := ob_s hF
        refine m_callV (As := [.int (((12 : Int32) * x2) + x1)]) (rest := []) X hp (w_X1_standing e11) q1071 q1029 q1030 q133 q1031 1 rfl ds_X1_standing ⟨Nat.le_of_ble_eq_true rfl, Nat.le_of_ble_eq_true rfl⟩ 2 (T := TX1) (N := 19) rfl (by decide) g10 hl.1 rfl (Nat.le_of_ble_eq_true rfl) dX0_cell_53 ⟨Nat.le_refl 0, Nat.le_refl 0⟩ (fun H locs hp => ?_)
        cases hF
        exact m_iret X hp dX0_cell_56
      · have hF := if_p c7 hF
        refine lv_aload_n hx hb dX0_cell_26 rfl (lv_at hl 0 rfl) ?_
        obtain ⟨v13, e14, hF⟩ := ob_s hF
        refine m_getR X hp e14 kX0 (Nat.le_of_ble_eq_true rfl) q463 dX0_cell_27 ?_
        obtain ⟨v15, e16, hF⟩ := ob_s hF
        refine m_getRN X hp e16 kX1 (Nat.le_of_ble_eq_true rfl) q376 dX0_cell_30 ?_
        refine lv_bipush (v := 12) hx hb dX0_cell_33 (by decide) ?_
        refine lv_iload_n hx hb dX0_cell_35 rfl (lv_at hl 2 rfl) ?_
        refine lv_imul hx hb dX0_cell_36 ?_
        refine lv_iload_n hx hb dX0_cell_37 rfl (lv_at hl 1 rfl) ?_
        refine lv_iadd hx hb dX0_cell_38 ?_
        obtain ⟨v17, e18, hF⟩ := ob_s hF
        refine m_iaI X hp e18 dX0_cell_39 ?_
        refine lv_goto (tgt := 56) hx hb dX0_cell_40 (by decide) ?_
        cases hF
        exact m_iret X hp dX0_cell_56
    · have hF := if_p c6 hF
      refine lv_bipush (v := -2) hx hb dX0_cell_17 (by decide) ?_
      refine lv_goto (tgt := 56) hx hb dX0_cell_19 (by decide) ?_
      cases hF
      exact m_iret X hp dX0_cell_56
end
section
variable {l : Launch} {D : va_G} {n0 : Nat} {P : mP} {S : mSh} {M : mMm} {n : Nat} {p : Program} {e : Env} {s : State} {m : MethodId} {args : Array Value} {below : List Frame} {meth : Method} {c : Code}
abbrev Rm_X0_clears : Room := { frames := 0, cells := 0, slots := 0, locals := 0 }
def fb_X0_clears_49 (S : mSh) (k32 : mMm → Nat → Int32 → Int32 → Nat → Int32 → Int32 → Option mMm) : Nat → mMm → Nat → Int32 → Int32 → Nat → Int32 → Int32 → Nat → Int32 → Option mMm
  | 0, _, _, _, _, _, _, _, _, _ => none
  | t + 1, M, x2, x3, x4, x6, x7, x8, x9, x10 => ob (aN S x9 100) fun v19 => (if v19 ≤ x10 then nm (x8 + (1 : Int32)) fun v22 => (k32 M x2 x3 x4 x6 x7 v22) else ob (wA S M x9 100 x10 (.int (0 : Int32))) fun M24 => nm (x10 + (1 : Int32)) fun v26 => (fb_X0_clears_49 S k32 t M24 x2 x3 x4 x6 x7 x8 x9 v26))
theorem b_X0_clears_49 {M' : mMm} (X : mCx D n0 P p m c cX0_clears 11 s args yX0_clears.cls meth none) (k32 : mMm → Nat → Int32 → Int32 → Nat → Int32 → Int32 → Option mMm) (hk32 : ∀ (M : mMm) (x2 : Nat) (x3 : Int32) (x4 : Int32) (x6 : Nat) (x7 : Int32) (x8 : Int32) (H : Heap) (locs : List Loc) (ls : Array Slot), mHp D n0 S M n s H locs → lv_has ls 11 [(2, .ref x2), (3, .int x3), (4, .int x4), (6, .ref x6), (7, .int x7), (8, .int x8)] → k32 M x2 x3 x4 x6 x7 x8 = some M' → W p l e Rm_X0_clears s m args below meth c H locs 0 0 (MQ below (mQ D n0 none S M' n) args s 0 0 (mA n0)) (F0 m 32 ls [])) : ∀ t : Nat, ∀ (M : mMm) (x2 : Nat) (x3 : Int32) (x4 : Int32) (x6 : Nat) (x7 : Int32) (x8 : Int32) (x9 : Nat) (x10 : Int32) (H : Heap) (locs : List Loc) (ls : Array Slot), mHp D n0 S M n s H locs → lv_has ls 11 [(2, .ref x2), (3, .int x3), (4, .int x4), (6, .ref x6), (7, .int x7), (8, .int x8), (9, .ref x9), (10, .int x10)] → fb_X0_clears_49 S k32 t M x2 x3 x4 x6 x7 x8 x9 x10 = some M' → W p l e Rm_X0_clears s m args below meth c H locs 0 0 (MQ below (mQ D n0 none S M' n) args s 0 0 (mA n0)) (F0 m 49 ls []) := by
  have hx := X.1.1
  have hb := X.1.2.1
  have hown := X.1.2.2.2.1
  have hts := X.1.2.2.2.2
  intro t
  induction t with
  | zero =>
    intro M x2 x3 x4 x6 x7 x8 x9 x10 H locs ls hp hl hF
    have hF : none = some M' := hF
    cases hF
  | succ t ih =>
    intro M x2 x3 x4 x6 x7 x8 x9 x10 H locs ls hp hl hF
    rw [fb_X0_clears_49] at hF
    refine lv_iload hx hb dX0_clears_49 (lv_at hl 7 rfl) ?_
    refine lv_aload hx hb dX0_clears_51 (lv_at hl 6 rfl) ?_
    obtain ⟨v19, e20, hF⟩ := ob_s hF
    refine m_aln 100 X hp e20 rfl (by decide) dX0_clears_53 ?_
    refine lv_icmp_ge (tgt := 69) hx hb dX0_clears_54 (by decide) (fun c21 => ?_) (fun c21 => ?_)
    · have hF := if_p c21 hF
      obtain ⟨v22, ev23⟩ : ∃ y : Int32, y = x8 + (1 : Int32) := ⟨_, rfl⟩
      have hF := nm_s hF ev23
      refine lv_iinc (v := v22) (lv' := [(8, .int v22), (2, .ref x2), (3, .int x3), (4, .int x4), (6, .ref x6), (7, .int x7), (9, .ref x9), (10, .int x10)]) hx hb dX0_clears_69 hl (k := 5) rfl (by rw [ev23]; rfl) (by decide) rfl (fun ls hl => ?_)
      refine lv_goto (tgt := 32) hx hb dX0_clears_72 (by decide) ?_
      exact hk32 _ _ _ _ _ _ _ _ _ _ hp (lv_sub hl [1, 2, 3, 4, 5, 0] rfl) hF
    · have hF := if_n c21 hF
      refine lv_aload hx hb dX0_clears_57 (lv_at hl 6 rfl) ?_
      refine lv_iload hx hb dX0_clears_59 (lv_at hl 7 rfl) ?_
      refine lv_iconst (v := 0) hx hb dX0_clears_61 (by decide) ?_
      obtain ⟨M24, e25, hF⟩ := ob_s hF
      refine m_iaW X hp e25 dX0_clears_62 (fun H locs hp => ?_)
      obtain ⟨v26, ev27⟩ : ∃ y : Int32, y = x10 + (1 : Int32) := ⟨_, rfl⟩
      have hF := nm_s hF ev27
      refine lv_iinc (v := v26) (lv' := [(10, .int v26), (2, .ref x2), (3, .int x3), (4, .int x4), (6, .ref x6), (7, .int x7), (8, .int x8), (9, .ref x9)]) hx hb dX0_clears_63 hl (k := 7) rfl (by rw [ev27]; rfl) (by decide) rfl (fun ls hl => ?_)
      refine lv_goto (tgt := 49) hx hb dX0_clears_66 (by decide) ?_
      exact ih _ _ _ _ _ _ _ _ _ _ _ _ hp (lv_sub hl [1, 2, 3, 4, 5, 6, 7, 0] rfl) hF
def fb_X0_clears_32 (S : mSh) (k8 : mMm → Nat → Int32 → Int32 → Option mMm) : Nat → mMm → Nat → Int32 → Int32 → Nat → Int32 → Int32 → Option mMm
  | 0, _, _, _, _, _, _, _ => none
  | t + 1, M, x2, x3, x4, x6, x7, x8 => (if x7 ≤ x8 then nm (x4 + (1 : Int32)) fun v13 => (k8 M x2 x3 v13) else ob (aR S M x6 108 x8) fun v15 => nm ((0 : Int32)) fun v17 => (fb_X0_clears_49 S (fb_X0_clears_32 S k8 t) FU M x2 x3 x4 x6 x7 x8 v15 v17))
theorem b_X0_clears_32 {M' : mMm} (X : mCx D n0 P p m c cX0_clears 11 s args yX0_clears.cls meth none) (k8 : mMm → Nat → Int32 → Int32 → Option mMm) (hk8 : ∀ (M : mMm) (x2 : Nat) (x3 : Int32) (x4 : Int32) (H : Heap) (locs : List Loc) (ls : Array Slot), mHp D n0 S M n s H locs → lv_has ls 11 [(2, .ref x2), (3, .int x3), (4, .int x4)] → k8 M x2 x3 x4 = some M' → W p l e Rm_X0_clears s m args below meth c H locs 0 0 (MQ below (mQ D n0 none S M' n) args s 0 0 (mA n0)) (F0 m 8 ls [])) : ∀ t : Nat, ∀ (M : mMm) (x2 : Nat) (x3 : Int32) (x4 : Int32) (x6 : Nat) (x7 : Int32) (x8 : Int32) (H : Heap) (locs : List Loc) (ls : Array Slot), mHp D n0 S M n s H locs → lv_has ls 11 [(2, .ref x2), (3, .int x3), (4, .int x4), (6, .ref x6), (7, .int x7), (8, .int x8)] → fb_X0_clears_32 S k8 t M x2 x3 x4 x6 x7 x8 = some M' → W p l e Rm_X0_clears s m args below meth c H locs 0 0 (MQ below (mQ D n0 none S M' n) args s 0 0 (mA n0)) (F0 m 32 ls []) := by
  have hx := X.1.1
  have hb := X.1.2.1
  have hown := X.1.2.2.2.1
  have hts := X.1.2.2.2.2
  intro t
  induction t with
  | zero =>
    intro M x2 x3 x4 x6 x7 x8 H locs ls hp hl hF
    have hF : none = some M' := hF
    cases hF
  | succ t ih =>
    intro M x2 x3 x4 x6 x7 x8 H locs ls hp hl hF
    rw [fb_X0_clears_32] at hF
    refine lv_iload hx hb dX0_clears_32 (lv_at hl 5 rfl) ?_
    refine lv_iload hx hb dX0_clears_34 (lv_at hl 4 rfl) ?_
    refine lv_icmp_ge (tgt := 75) hx hb dX0_clears_36 (by decide) (fun c12 => ?_) (fun c12 => ?_)
    · have hF := if_p c12 hF
      obtain ⟨v13, ev14⟩ : ∃ y : Int32, y = x4 + (1 : Int32) := ⟨_, rfl⟩
      have hF := nm_s hF ev14
      refine lv_iinc (v := v13) (lv' := [(4, .int v13), (2, .ref x2), (3, .int x3), (6, .ref x6), (7, .int x7), (8, .int x8)]) hx hb dX0_clears_75 hl (k := 2) rfl (by rw [ev14]; rfl) (by decide) rfl (fun ls hl => ?_)
      refine lv_goto (tgt := 8) hx hb dX0_clears_78 (by decide) ?_
      exact hk8 _ _ _ _ _ _ _ hp (lv_sub hl [1, 2, 0] rfl) hF
    · have hF := if_n c12 hF
      refine lv_aload hx hb dX0_clears_39 (lv_at hl 3 rfl) ?_
      refine lv_iload hx hb dX0_clears_41 (lv_at hl 5 rfl) ?_
      obtain ⟨v15, e16, hF⟩ := ob_s hF
      refine m_aaR 108 X hp e16 rfl (by decide) rfl dX0_clears_43 ?_
      refine lv_astore (lv' := [(9, .ref v15), (2, .ref x2), (3, .int x3), (4, .int x4), (6, .ref x6), (7, .int x7), (8, .int x8)]) hx hb dX0_clears_44 hl (by decide) rfl (fun ls hl => ?_)
      refine lv_iconst (v := 0) hx hb dX0_clears_46 (by decide) ?_
      refine lv_topi (fun v17 ev18 => ?_)
      have hF := nm_s hF ev18
      refine lv_istore (lv' := [(10, .int v17), (9, .ref v15), (2, .ref x2), (3, .int x3), (4, .int x4), (6, .ref x6), (7, .int x7), (8, .int x8)]) hx hb dX0_clears_47 hl (by decide) rfl (fun ls hl => ?_)
      exact b_X0_clears_49 X _ ih _ _ _ _ _ _ _ _ _ _ _ _ _ hp (lv_sub hl [2, 3, 4, 5, 6, 7, 1, 0] rfl) hF
def fb_X0_clears_8 (S : mSh) : Nat → mMm → Nat → Int32 → Int32 → Option mMm
  | 0, _, _, _, _ => none
  | t + 1, M, x2, x3, x4 => (if x3 ≤ x4 then some M else ob (aR S M x2 109 x4) fun v6 => ob (aN S v6 108) fun v8 => nm ((0 : Int32)) fun v10 => (fb_X0_clears_32 S (fb_X0_clears_8 S t) FU M x2 x3 x4 v6 v8 v10))
theorem b_X0_clears_8 {M' : mMm} (X : mCx D n0 P p m c cX0_clears 11 s args yX0_clears.cls meth none) : ∀ t : Nat, ∀ (M : mMm) (x2 : Nat) (x3 : Int32) (x4 : Int32) (H : Heap) (locs : List Loc) (ls : Array Slot), mHp D n0 S M n s H locs → lv_has ls 11 [(2, .ref x2), (3, .int x3), (4, .int x4)] → fb_X0_clears_8 S t M x2 x3 x4 = some M' → W p l e Rm_X0_clears s m args below meth c H locs 0 0 (MQ below (mQ D n0 none S M' n) args s 0 0 (mA n0)) (F0 m 8 ls []) := by
  have hx := X.1.1
  have hb := X.1.2.1
  have hown := X.1.2.2.2.1
  have hts := X.1.2.2.2.2
  intro t
  induction t with
  | zero =>
    intro M x2 x3 x4 H locs ls hp hl hF
    have hF : none = some M' := hF
    cases hF
  | succ t ih =>
    intro M x2 x3 x4 H locs ls hp hl hF
    rw [fb_X0_clears_8] at hF
    refine lv_iload hx hb dX0_clears_8 (lv_at hl 2 rfl) ?_
    refine lv_iload_n hx hb dX0_clears_10 rfl (lv_at hl 1 rfl) ?_
    refine lv_icmp_ge (tgt := 81) hx hb dX0_clears_11 (by decide) (fun c5 => ?_) (fun c5 => ?_)
    · have hF := if_p c5 hF
      cases hF
      exact m_vret X hp dX0_clears_81
    · have hF := if_n c5 hF
      refine lv_aload_n hx hb dX0_clears_14 rfl (lv_at hl 0 rfl) ?_
      refine lv_iload hx hb dX0_clears_15 (lv_at hl 2 rfl) ?_
      obtain ⟨v6, e7, hF⟩ := ob_s hF
      refine m_aaR 109 X hp e7 rfl (by decide) rfl dX0_clears_17 ?_
      refine lv_astore (lv' := [(5, .ref v6), (2, .ref x2), (3, .int x3), (4, .int x4)]) hx hb dX0_clears_18 hl (by decide) rfl (fun ls hl => ?_)
      refine lv_aload hx hb dX0_clears_20 (lv_at hl 0 rfl) ?_
      refine lv_astore (lv' := [(6, .ref v6), (5, .ref v6), (2, .ref x2), (3, .int x3), (4, .int x4)]) hx hb dX0_clears_22 hl (by decide) rfl (fun ls hl => ?_)
      refine lv_aload hx hb dX0_clears_24 (lv_at hl 0 rfl) ?_
      obtain ⟨v8, e9, hF⟩ := ob_s hF
      refine m_aln 108 X hp e9 rfl (by decide) dX0_clears_26 ?_
      refine lv_istore (lv' := [(7, .int v8), (6, .ref v6), (5, .ref v6), (2, .ref x2), (3, .int x3), (4, .int x4)]) hx hb dX0_clears_27 hl (by decide) rfl (fun ls hl => ?_)
      refine lv_iconst (v := 0) hx hb dX0_clears_29 (by decide) ?_
      refine lv_topi (fun v10 ev11 => ?_)
      have hF := nm_s hF ev11
      refine lv_istore (lv' := [(8, .int v10), (7, .int v8), (6, .ref v6), (5, .ref v6), (2, .ref x2), (3, .int x3), (4, .int x4)]) hx hb dX0_clears_30 hl (by decide) rfl (fun ls hl => ?_)
      exact b_X0_clears_32 X _ ih _ _ _ _ _ _ _ _ _ _ _ hp (lv_sub hl [4, 5, 6, 2, 1, 0] rfl) hF
def f_X0_clears (S : mSh) (M : mMm) (x0 : Nat) (x1 : Nat) : Option mMm := ob (aN S x1 109) fun v1 => nm ((0 : Int32)) fun v3 => (fb_X0_clears_8 S FU M x1 v1 v3)
theorem w_X0_clears {x0 : Nat} {x1 : Nat} {M' : mMm} (hF : f_X0_clears S M x0 x1 = some M') : mCt l D n0 P yX0_clears cX0_clears 11 none 0 0 0 0 [.ref x0, .ref x1] S M n none S M' n := by
  refine m_ofW (by decide) (Nat.le_of_ble_eq_true rfl) (fun p e s m below meth c X hnm hp ls hl => ?_)
  have hx := X.1.1
  have hb := X.1.2.1
  have hown := X.1.2.2.2.1
  have hts := X.1.2.2.2.2
  have hl : lv_has ls 11 [(0, .ref x0), (1, .ref x1)] := hl
  unfold f_X0_clears at hF
  refine lv_aload_n hx hb dX0_clears_0 rfl (lv_at hl 1 rfl) ?_
  refine lv_astore_n (lv' := [(2, .ref x1), (0, .ref x0), (1, .ref x1)]) hx hb dX0_clears_1 rfl hl (by decide) rfl (fun ls hl => ?_)
  refine lv_aload_n hx hb dX0_clears_2 rfl (lv_at hl 0 rfl) ?_
  obtain ⟨v1, e2, hF⟩ := ob_s hF
  refine m_aln 109 X hp e2 rfl (by decide) dX0_clears_3 ?_
  refine lv_istore_n (lv' := [(3, .int v1), (2, .ref x1), (0, .ref x0), (1, .ref x1)]) hx hb dX0_clears_4 rfl hl (by decide) rfl (fun ls hl => ?_)
  refine lv_iconst (v := 0) hx hb dX0_clears_5 (by decide) ?_
  refine lv_topi (fun v3 ev4 => ?_)
  have hF := nm_s hF ev4
  refine lv_istore (lv' := [(4, .int v3), (3, .int v1), (2, .ref x1), (0, .ref x0), (1, .ref x1)]) hx hb dX0_clears_6 hl (by decide) rfl (fun ls hl => ?_)
  exact b_X0_clears_8 X _ _ _ _ _ _ _ _ hp (lv_sub hl [2, 1, 0] rfl) hF
end
section
variable {l : Launch} {D : va_G} {n0 : Nat} {P : mP} {S : mSh} {M : mMm} {n : Nat} {p : Program} {e : Env} {s : State} {m : MethodId} {args : Array Value} {below : List Frame} {meth : Method} {c : Code}
abbrev Rm_X0_isWalker : Room := { frames := 1, cells := 0, slots := 0, locals := 22 }
def f_X0_isWalker (S : mSh) (M : mMm) (x0 : Nat) (x1 : Int32) : Option Int32 := ob (rR S M x0 1 4) fun v1 => ob (rI S M v1 2 10) fun v3 => ob (f_X0_isIn x1 (0 : Int32) (v3 - (1 : Int32))) fun v6 => gd (v6 &&& 1 = v6) (some v6)
theorem w_X0_isWalker {x0 : Nat} {x1 : Int32} {r : Int32} (hF : f_X0_isWalker S M x0 x1 = some r) : mCt l D n0 P yX0_isWalker cX0_isWalker 2 (some .boolean) 1 22 0 0 [.ref x0, .int x1] S M n (some (.int r)) S M n := by
  refine m_ofW (by decide) (Nat.le_of_ble_eq_true rfl) (fun p e s m below meth c X hnm hp ls hl => ?_)
  have hx := X.1.1
  have hb := X.1.2.1
  have hown := X.1.2.2.2.1
  have hts := X.1.2.2.2.2
  have hl : lv_has ls 2 [(0, .ref x0), (1, .int x1)] := hl
  unfold f_X0_isWalker at hF
  refine lv_iload_n hx hb dX0_isWalker_0 rfl (lv_at hl 1 rfl) ?_
  refine lv_iconst (v := 0) hx hb dX0_isWalker_1 (by decide) ?_
  refine lv_aload_n hx hb dX0_isWalker_2 rfl (lv_at hl 0 rfl) ?_
  obtain ⟨v1, e2, hF⟩ := ob_s hF
  refine m_getR X hp e2 kX0 (Nat.le_of_ble_eq_true rfl) q463 dX0_isWalker_3 ?_
  obtain ⟨v3, e4, hF⟩ := ob_s hF
  refine m_getIN X hp e4 kX1 (Nat.le_of_ble_eq_true rfl) q396 dX0_isWalker_6 ?_
  refine lv_iconst (v := 1) hx hb dX0_isWalker_9 (by decide) ?_
  refine lv_isub hx hb dX0_isWalker_10 ?_
  obtain ⟨v6, e5, hF⟩ := ob_s hF
  refine m_callS (As := [.int x1, .int (0 : Int32), .int (v3 - (1 : Int32))]) (rest := []) X hp (w_X0_isIn e5) q565 q566 q132 q567 3 rfl ds_X0_isIn ⟨Nat.le_of_ble_eq_true rfl, Nat.le_of_ble_eq_true rfl⟩ hl.1 rfl (Nat.le_of_ble_eq_true rfl) dX0_isWalker_11 ⟨Nat.le_refl 0, Nat.le_refl 0⟩ (fun H locs hp => ?_)
  obtain ⟨g7, hF⟩ := gd_s hF
  cases hF
  exact m_zret X hp ((bz_iff _).mpr g7) dX0_isWalker_14
end
section
variable {l : Launch} {D : va_G} {n0 : Nat} {P : mP} {S : mSh} {M : mMm} {n : Nat} {p : Program} {e : Env} {s : State} {m : MethodId} {args : Array Value} {below : List Frame} {meth : Method} {c : Code}
abbrev Rm_X4_isIn : Room := { frames := 0, cells := 0, slots := 0, locals := 0 }
def f_X4_isIn (S : mSh) (M : mMm) (x0 : Nat) : Option Int32 := ob (rI S M x0 5 1) fun v1 => (if v1 = (-1 : Int32) then some (0 : Int32) else some (1 : Int32))
theorem w_X4_isIn {x0 : Nat} {r : Int32} (hF : f_X4_isIn S M x0 = some r) : mCt l D n0 P yX4_isIn cX4_isIn 1 (some .boolean) 0 0 0 0 [.ref x0] S M n (some (.int r)) S M n := by
  refine m_ofW (by decide) (Nat.le_of_ble_eq_true rfl) (fun p e s m below meth c X hnm hp ls hl => ?_)
  have hx := X.1.1
  have hb := X.1.2.1
  have hown := X.1.2.2.2.1
  have hts := X.1.2.2.2.2
  have hl : lv_has ls 1 [(0, .ref x0)] := hl
  unfold f_X4_isIn at hF
  refine lv_aload_n hx hb dX4_isIn_0 rfl (lv_at hl 0 rfl) ?_
  obtain ⟨v1, e2, hF⟩ := ob_s hF
  refine m_getI X hp e2 kX4 (Nat.le_of_ble_eq_true rfl) q254 dX4_isIn_1 ?_
  refine lv_iconst (v := -1) hx hb dX4_isIn_4 (by decide) ?_
  refine lv_icmp_eq (tgt := 12) hx hb dX4_isIn_5 (by decide) (fun c3 => ?_) (fun c3 => ?_)
  · have hF := if_p c3 hF
    refine lv_iconst (v := 0) hx hb dX4_isIn_12 (by decide) ?_
    cases hF
    exact m_zret X hp rfl dX4_isIn_13
  · have hF := if_n c3 hF
    refine lv_iconst (v := 1) hx hb dX4_isIn_8 (by decide) ?_
    refine lv_goto (tgt := 13) hx hb dX4_isIn_9 (by decide) ?_
    cases hF
    exact m_zret X hp rfl dX4_isIn_13
end
section
variable {l : Launch} {D : va_G} {n0 : Nat} {P : mP} {S : mSh} {M : mMm} {n : Nat} {p : Program} {e : Env} {s : State} {m : MethodId} {args : Array Value} {below : List Frame} {meth : Method} {c : Code}
abbrev Rm_X1_isFree : Room := { frames := 1, cells := 0, slots := 0, locals := 22 }
def f_X1_isFree (S : mSh) (M : mMm) (x0 : Nat) (x1 : Int32) : Option Int32 := ob (rR S M x0 2 0) fun v1 => ob (aI S M v1 100 x1) fun v3 => (if v3 = (1 : Int32) then some (0 : Int32) else ob (f_X1_standing S M x0 x1) fun v7 => (if v7 = (-1 : Int32) then some (1 : Int32) else some (0 : Int32)))
theorem w_X1_isFree {x0 : Nat} {x1 : Int32} {r : Int32} (hF : f_X1_isFree S M x0 x1 = some r) : mCt l D n0 P yX1_isFree cX1_isFree 2 (some .boolean) 1 22 0 0 [.ref x0, .int x1] S M n (some (.int r)) S M n := by
  refine m_ofW (by decide) (Nat.le_of_ble_eq_true rfl) (fun p e s m below meth c X hnm hp ls hl => ?_)
  have hx := X.1.1
  have hb := X.1.2.1
  have hown := X.1.2.2.2.1
  have hts := X.1.2.2.2.2
  have hl : lv_has ls 2 [(0, .ref x0), (1, .int x1)] := hl
  unfold f_X1_isFree at hF
  refine lv_aload_n hx hb dX1_isFree_0 rfl (lv_at hl 0 rfl) ?_
  obtain ⟨v1, e2, hF⟩ := ob_s hF
  refine m_getR X hp e2 kX1 (Nat.le_of_ble_eq_true rfl) q375 dX1_isFree_1 ?_
  refine lv_iload_n hx hb dX1_isFree_4 rfl (lv_at hl 1 rfl) ?_
  obtain ⟨v3, e4, hF⟩ := ob_s hF
  refine m_iaI X hp e4 dX1_isFree_5 ?_
  refine lv_iconst (v := 1) hx hb dX1_isFree_6 (by decide) ?_
  refine lv_icmp_eq (tgt := 23) hx hb dX1_isFree_7 (by decide) (fun c5 => ?_) (fun c5 => ?_)
  · have hF := if_p c5 hF
    refine lv_iconst (v := 0) hx hb dX1_isFree_23 (by decide) ?_
    cases hF
    exact m_zret X hp rfl dX1_isFree_24
  · have hF := if_n c5 hF
    refine lv_aload_n hx hb dX1_isFree_10 rfl (lv_at hl 0 rfl) ?_
    refine lv_iload_n hx hb dX1_isFree_11 rfl (lv_at hl 1 rfl) ?_
    obtain ⟨v7, e6, hF⟩ := ob_s hF
    refine m_callV (As := [.int x1]) (rest := []) X hp (w_X1_standing e6) q1028 q1029 q1030 q133 q1031 1 rfl ds_X1_standing ⟨Nat.le_of_ble_eq_true rfl, Nat.le_of_ble_eq_true rfl⟩ 2 (T := TX1) (N := 19) rfl (by decide) (rR_s e2).1 hl.1 rfl (Nat.le_of_ble_eq_true rfl) dX1_isFree_12 ⟨Nat.le_refl 0, Nat.le_refl 0⟩ (fun H locs hp => ?_)
    refine lv_iconst (v := -1) hx hb dX1_isFree_15 (by decide) ?_
    refine lv_icmp_ne (tgt := 23) hx hb dX1_isFree_16 (by decide) (fun c8 => ?_) (fun c8 => ?_)
    · have hF := if_n c8 hF
      refine lv_iconst (v := 0) hx hb dX1_isFree_23 (by decide) ?_
      cases hF
      exact m_zret X hp rfl dX1_isFree_24
    · have hF := if_p c8 hF
      refine lv_iconst (v := 1) hx hb dX1_isFree_19 (by decide) ?_
      refine lv_goto (tgt := 24) hx hb dX1_isFree_20 (by decide) ?_
      cases hF
      exact m_zret X hp rfl dX1_isFree_24
end
section
variable {l : Launch} {D : va_G} {n0 : Nat} {P : mP} {S : mSh} {M : mMm} {n : Nat} {p : Program} {e : Env} {s : State} {m : MethodId} {args : Array Value} {below : List Frame} {meth : Method} {c : Code}
abbrev Rm_X4_begins : Room := { frames := 0, cells := 0, slots := 0, locals := 0 }
def f_X4_begins (S : mSh) (M : mMm) (x0 : Nat) : Option mMm := ob (wF S M x0 5 6 (.int (0 : Int32))) fun M1 => ob (wF S M1 x0 5 7 (.int (0 : Int32))) fun M3 => some M3
theorem w_X4_begins {x0 : Nat} {M' : mMm} (hF : f_X4_begins S M x0 = some M') : mCt l D n0 P yX4_begins cX4_begins 1 none 0 0 0 0 [.ref x0] S M n none S M' n := by
  refine m_ofW (by decide) (Nat.le_of_ble_eq_true rfl) (fun p e s m below meth c X hnm hp ls hl => ?_)
  have hx := X.1.1
  have hb := X.1.2.1
  have hown := X.1.2.2.2.1
  have hts := X.1.2.2.2.2
  have hl : lv_has ls 1 [(0, .ref x0)] := hl
  unfold f_X4_begins at hF
  refine lv_aload_n hx hb dX4_begins_0 rfl (lv_at hl 0 rfl) ?_
  refine lv_iconst (v := 0) hx hb dX4_begins_1 (by decide) ?_
  obtain ⟨M1, e2, hF⟩ := ob_s hF
  refine m_putW X hp e2 kX4 (Nat.le_of_ble_eq_true rfl) q269 rfl rfl rfl dX4_begins_2 (fun H locs hp => ?_)
  refine lv_aload_n hx hb dX4_begins_5 rfl (lv_at hl 0 rfl) ?_
  refine lv_iconst (v := 0) hx hb dX4_begins_6 (by decide) ?_
  obtain ⟨M3, e4, hF⟩ := ob_s hF
  refine m_putW X hp e4 kX4 (Nat.le_of_ble_eq_true rfl) q272 rfl rfl rfl dX4_begins_7 (fun H locs hp => ?_)
  cases hF
  exact m_vret X hp dX4_begins_10
end
section
variable {l : Launch} {D : va_G} {n0 : Nat} {P : mP} {S : mSh} {M : mMm} {n : Nat} {p : Program} {e : Env} {s : State} {m : MethodId} {args : Array Value} {below : List Frame} {meth : Method} {c : Code}
abbrev Rm_X4_goes : Room := { frames := 1, cells := 0, slots := 0, locals := 20 }
def f_X4_goes (S : mSh) (M : mMm) (x0 : Nat) : Option mMm := ob (wF S M x0 5 1 (.int (-1 : Int32))) fun M1 => ob (wF S M1 x0 5 2 (.int (0 : Int32))) fun M3 => ob (wF S M3 x0 5 3 (.int (0 : Int32))) fun M5 => ob (wF S M5 x0 5 4 (.int (0 : Int32))) fun M7 => ob (wF S M7 x0 5 5 (.int (0 : Int32))) fun M9 => ob (f_X4_begins S M9 x0) fun M13 => some M13
theorem w_X4_goes {x0 : Nat} {M' : mMm} (hF : f_X4_goes S M x0 = some M') : mCt l D n0 P yX4_goes cX4_goes 1 none 1 20 0 0 [.ref x0] S M n none S M' n := by
  refine m_ofW (by decide) (Nat.le_of_ble_eq_true rfl) (fun p e s m below meth c X hnm hp ls hl => ?_)
  have hx := X.1.1
  have hb := X.1.2.1
  have hown := X.1.2.2.2.1
  have hts := X.1.2.2.2.2
  have hl : lv_has ls 1 [(0, .ref x0)] := hl
  unfold f_X4_goes at hF
  refine lv_aload_n hx hb dX4_goes_0 rfl (lv_at hl 0 rfl) ?_
  refine lv_iconst (v := -1) hx hb dX4_goes_1 (by decide) ?_
  obtain ⟨M1, e2, hF⟩ := ob_s hF
  refine m_putW X hp e2 kX4 (Nat.le_of_ble_eq_true rfl) q254 rfl rfl rfl dX4_goes_2 (fun H locs hp => ?_)
  refine lv_aload_n hx hb dX4_goes_5 rfl (lv_at hl 0 rfl) ?_
  refine lv_iconst (v := 0) hx hb dX4_goes_6 (by decide) ?_
  obtain ⟨M3, e4, hF⟩ := ob_s hF
  refine m_putW X hp e4 kX4 (Nat.le_of_ble_eq_true rfl) q257 rfl rfl rfl dX4_goes_7 (fun H locs hp => ?_)
  refine lv_aload_n hx hb dX4_goes_10 rfl (lv_at hl 0 rfl) ?_
  refine lv_iconst (v := 0) hx hb dX4_goes_11 (by decide) ?_
  obtain ⟨M5, e6, hF⟩ := ob_s hF
  refine m_putW X hp e6 kX4 (Nat.le_of_ble_eq_true rfl) q260 rfl rfl rfl dX4_goes_12 (fun H locs hp => ?_)
  refine lv_aload_n hx hb dX4_goes_15 rfl (lv_at hl 0 rfl) ?_
  refine lv_iconst (v := 0) hx hb dX4_goes_16 (by decide) ?_
  obtain ⟨M7, e8, hF⟩ := ob_s hF
  refine m_putW X hp e8 kX4 (Nat.le_of_ble_eq_true rfl) q263 rfl rfl rfl dX4_goes_17 (fun H locs hp => ?_)
  refine lv_aload_n hx hb dX4_goes_20 rfl (lv_at hl 0 rfl) ?_
  refine lv_iconst (v := 0) hx hb dX4_goes_21 (by decide) ?_
  obtain ⟨M9, e10, hF⟩ := ob_s hF
  refine m_putW X hp e10 kX4 (Nat.le_of_ble_eq_true rfl) q266 rfl rfl rfl dX4_goes_22 (fun H locs hp => ?_)
  refine lv_aload_n hx hb dX4_goes_25 rfl (lv_at hl 0 rfl) ?_
  obtain ⟨M13, e11, hF⟩ := ob_s hF
  refine m_callV (As := []) (rest := []) X hp (w_X4_begins e11) q309 q310 q311 q139 q312 0 rfl ds_X4_begins ⟨Nat.le_of_ble_eq_true rfl, Nat.le_of_ble_eq_true rfl⟩ 5 (T := TX4) (N := 11) rfl (by decide) (wF_s e10).1 hl.1 rfl (Nat.le_of_ble_eq_true rfl) dX4_goes_26 ⟨Nat.le_refl 0, Nat.le_refl 0⟩ (fun H locs hp => ?_)
  cases hF
  exact m_vret X hp dX4_goes_29
end
section
variable {l : Launch} {D : va_G} {n0 : Nat} {P : mP} {S : mSh} {M : mMm} {n : Nat} {p : Program} {e : Env} {s : State} {m : MethodId} {args : Array Value} {below : List Frame} {meth : Method} {c : Code}
abbrev Rm_X4_begins_2 : Room := { frames := 2, cells := 0, slots := 0, locals := 40 }
def f_X4_begins_2 (S : mSh) (M : mMm) (x0 : Nat) (x1 : Int32) : Option mMm := ob (wF S M x0 5 0 (.int x1)) fun M1 => ob (wF S M1 x0 5 8 (.int (0 : Int32))) fun M3 => ob (wF S M3 x0 5 9 (.int (0 : Int32))) fun M5 => ob (wF S M5 x0 5 10 (.int (0 : Int32))) fun M7 => ob (f_X4_goes S M7 x0) fun M11 => some M11
theorem w_X4_begins_2 {x0 : Nat} {x1 : Int32} {M' : mMm} (hF : f_X4_begins_2 S M x0 x1 = some M') : mCt l D n0 P yX4_begins_2 cX4_begins_2 2 none 2 40 0 0 [.ref x0, .int x1] S M n none S M' n := by
  refine m_ofW (by decide) (Nat.le_of_ble_eq_true rfl) (fun p e s m below meth c X hnm hp ls hl => ?_)
  have hx := X.1.1
  have hb := X.1.2.1
  have hown := X.1.2.2.2.1
  have hts := X.1.2.2.2.2
  have hl : lv_has ls 2 [(0, .ref x0), (1, .int x1)] := hl
  unfold f_X4_begins_2 at hF
  refine lv_aload_n hx hb dX4_begins_2_0 rfl (lv_at hl 0 rfl) ?_
  refine lv_iload_n hx hb dX4_begins_2_1 rfl (lv_at hl 1 rfl) ?_
  obtain ⟨M1, e2, hF⟩ := ob_s hF
  refine m_putW X hp e2 kX4 (Nat.le_of_ble_eq_true rfl) q251 rfl rfl rfl dX4_begins_2_2 (fun H locs hp => ?_)
  refine lv_aload_n hx hb dX4_begins_2_5 rfl (lv_at hl 0 rfl) ?_
  refine lv_iconst (v := 0) hx hb dX4_begins_2_6 (by decide) ?_
  obtain ⟨M3, e4, hF⟩ := ob_s hF
  refine m_putW X hp e4 kX4 (Nat.le_of_ble_eq_true rfl) q273 rfl rfl rfl dX4_begins_2_7 (fun H locs hp => ?_)
  refine lv_aload_n hx hb dX4_begins_2_10 rfl (lv_at hl 0 rfl) ?_
  refine lv_iconst (v := 0) hx hb dX4_begins_2_11 (by decide) ?_
  obtain ⟨M5, e6, hF⟩ := ob_s hF
  refine m_putW X hp e6 kX4 (Nat.le_of_ble_eq_true rfl) q276 rfl rfl rfl dX4_begins_2_12 (fun H locs hp => ?_)
  refine lv_aload_n hx hb dX4_begins_2_15 rfl (lv_at hl 0 rfl) ?_
  refine lv_iconst (v := 0) hx hb dX4_begins_2_16 (by decide) ?_
  obtain ⟨M7, e8, hF⟩ := ob_s hF
  refine m_putW X hp e8 kX4 (Nat.le_of_ble_eq_true rfl) q279 rfl rfl rfl dX4_begins_2_17 (fun H locs hp => ?_)
  refine lv_aload_n hx hb dX4_begins_2_20 rfl (lv_at hl 0 rfl) ?_
  obtain ⟨M11, e9, hF⟩ := ob_s hF
  refine m_callV (As := []) (rest := []) X hp (w_X4_goes e9) q1005 q306 q307 q139 q308 0 rfl ds_X4_goes ⟨Nat.le_of_ble_eq_true rfl, Nat.le_of_ble_eq_true rfl⟩ 5 (T := TX4) (N := 11) rfl (by decide) (wF_s e8).1 hl.1 rfl (Nat.le_of_ble_eq_true rfl) dX4_begins_2_21 ⟨Nat.le_refl 0, Nat.le_refl 0⟩ (fun H locs hp => ?_)
  cases hF
  exact m_vret X hp dX4_begins_2_24
end
section
variable {l : Launch} {D : va_G} {n0 : Nat} {P : mP} {S : mSh} {M : mMm} {n : Nat} {p : Program} {e : Env} {s : State} {m : MethodId} {args : Array Value} {below : List Frame} {meth : Method} {c : Code}
abbrev Rm_X4_takes : Room := { frames := 3, cells := 0, slots := 0, locals := 61 }
def f_X4_takes (S : mSh) (M : mMm) (x0 : Nat) (x1 : Nat) : Option mMm := ob (rI S M x1 5 0) fun v1 => gd ((S x0).1 = 5) (ob (f_X4_begins_2 S M x0 v1) fun M6 => ob (rI S M6 x1 5 1) fun v7 => ob (wF S M6 x0 5 1 (.int v7)) fun M9 => ob (rI S M9 x1 5 2) fun v11 => ob (wF S M9 x0 5 2 (.int v11)) fun M13 => ob (rI S M13 x1 5 3) fun v15 => ob (wF S M13 x0 5 3 (.int v15)) fun M17 => ob (rI S M17 x1 5 4) fun v19 => ob (wF S M17 x0 5 4 (.int v19)) fun M21 => ob (rI S M21 x1 5 5) fun v23 => ob (wF S M21 x0 5 5 (.int v23)) fun M25 => ob (rI S M25 x1 5 6) fun v27 => ob (wF S M25 x0 5 6 (.int v27)) fun M29 => ob (rI S M29 x1 5 7) fun v31 => ob (wF S M29 x0 5 7 (.int v31)) fun M33 => ob (rI S M33 x1 5 8) fun v35 => ob (wF S M33 x0 5 8 (.int v35)) fun M37 => ob (rI S M37 x1 5 9) fun v39 => ob (wF S M37 x0 5 9 (.int v39)) fun M41 => ob (rI S M41 x1 5 10) fun v43 => ob (wF S M41 x0 5 10 (.int v43)) fun M45 => some M45)
theorem w_X4_takes {x0 : Nat} {x1 : Nat} {M' : mMm} (hF : f_X4_takes S M x0 x1 = some M') : mCt l D n0 P yX4_takes cX4_takes 2 none 3 61 0 0 [.ref x0, .ref x1] S M n none S M' n := by
  refine m_ofW (by decide) (Nat.le_of_ble_eq_true rfl) (fun p e s m below meth c X hnm hp ls hl => ?_)
  have hx := X.1.1
  have hb := X.1.2.1
  have hown := X.1.2.2.2.1
  have hts := X.1.2.2.2.2
  have hl : lv_has ls 2 [(0, .ref x0), (1, .ref x1)] := hl
  unfold f_X4_takes at hF
  refine lv_aload_n hx hb dX4_takes_0 rfl (lv_at hl 0 rfl) ?_
  refine lv_aload_n hx hb dX4_takes_1 rfl (lv_at hl 1 rfl) ?_
  obtain ⟨v1, e2, hF⟩ := ob_s hF
  refine m_getI X hp e2 kX4 (Nat.le_of_ble_eq_true rfl) q251 dX4_takes_2 ?_
  obtain ⟨g3, hF⟩ := gd_s hF
  obtain ⟨M6, e4, hF⟩ := ob_s hF
  refine m_callV (As := [.int v1]) (rest := []) X hp (w_X4_begins_2 e4) q1001 q1002 q1003 q139 q1004 1 rfl ds_X4_begins_2 ⟨Nat.le_of_ble_eq_true rfl, Nat.le_of_ble_eq_true rfl⟩ 5 (T := TX4) (N := 11) rfl (by decide) g3 hl.1 rfl (Nat.le_of_ble_eq_true rfl) dX4_takes_5 ⟨Nat.le_refl 0, Nat.le_refl 0⟩ (fun H locs hp => ?_)
  refine lv_aload_n hx hb dX4_takes_8 rfl (lv_at hl 0 rfl) ?_
  refine lv_aload_n hx hb dX4_takes_9 rfl (lv_at hl 1 rfl) ?_
  obtain ⟨v7, e8, hF⟩ := ob_s hF
  refine m_getI X hp e8 kX4 (Nat.le_of_ble_eq_true rfl) q254 dX4_takes_10 ?_
  obtain ⟨M9, e10, hF⟩ := ob_s hF
  refine m_putW X hp e10 kX4 (Nat.le_of_ble_eq_true rfl) q254 rfl rfl rfl dX4_takes_13 (fun H locs hp => ?_)
  refine lv_aload_n hx hb dX4_takes_16 rfl (lv_at hl 0 rfl) ?_
  refine lv_aload_n hx hb dX4_takes_17 rfl (lv_at hl 1 rfl) ?_
  obtain ⟨v11, e12, hF⟩ := ob_s hF
  refine m_getI X hp e12 kX4 (Nat.le_of_ble_eq_true rfl) q257 dX4_takes_18 ?_
  obtain ⟨M13, e14, hF⟩ := ob_s hF
  refine m_putW X hp e14 kX4 (Nat.le_of_ble_eq_true rfl) q257 rfl rfl rfl dX4_takes_21 (fun H locs hp => ?_)
  refine lv_aload_n hx hb dX4_takes_24 rfl (lv_at hl 0 rfl) ?_
  refine lv_aload_n hx hb dX4_takes_25 rfl (lv_at hl 1 rfl) ?_
  obtain ⟨v15, e16, hF⟩ := ob_s hF
  refine m_getI X hp e16 kX4 (Nat.le_of_ble_eq_true rfl) q260 dX4_takes_26 ?_
  obtain ⟨M17, e18, hF⟩ := ob_s hF
  refine m_putW X hp e18 kX4 (Nat.le_of_ble_eq_true rfl) q260 rfl rfl rfl dX4_takes_29 (fun H locs hp => ?_)
  refine lv_aload_n hx hb dX4_takes_32 rfl (lv_at hl 0 rfl) ?_
  refine lv_aload_n hx hb dX4_takes_33 rfl (lv_at hl 1 rfl) ?_
  obtain ⟨v19, e20, hF⟩ := ob_s hF
  refine m_getI X hp e20 kX4 (Nat.le_of_ble_eq_true rfl) q263 dX4_takes_34 ?_
  obtain ⟨M21, e22, hF⟩ := ob_s hF
  refine m_putW X hp e22 kX4 (Nat.le_of_ble_eq_true rfl) q263 rfl rfl rfl dX4_takes_37 (fun H locs hp => ?_)
  refine lv_aload_n hx hb dX4_takes_40 rfl (lv_at hl 0 rfl) ?_
  refine lv_aload_n hx hb dX4_takes_41 rfl (lv_at hl 1 rfl) ?_
  obtain ⟨v23, e24, hF⟩ := ob_s hF
  refine m_getI X hp e24 kX4 (Nat.le_of_ble_eq_true rfl) q266 dX4_takes_42 ?_
  obtain ⟨M25, e26, hF⟩ := ob_s hF
  refine m_putW X hp e26 kX4 (Nat.le_of_ble_eq_true rfl) q266 rfl rfl rfl dX4_takes_45 (fun H locs hp => ?_)
  refine lv_aload_n hx hb dX4_takes_48 rfl (lv_at hl 0 rfl) ?_
  refine lv_aload_n hx hb dX4_takes_49 rfl (lv_at hl 1 rfl) ?_
  obtain ⟨v27, e28, hF⟩ := ob_s hF
  refine m_getI X hp e28 kX4 (Nat.le_of_ble_eq_true rfl) q269 dX4_takes_50 ?_
  obtain ⟨M29, e30, hF⟩ := ob_s hF
  refine m_putW X hp e30 kX4 (Nat.le_of_ble_eq_true rfl) q269 rfl rfl rfl dX4_takes_53 (fun H locs hp => ?_)
  refine lv_aload_n hx hb dX4_takes_56 rfl (lv_at hl 0 rfl) ?_
  refine lv_aload_n hx hb dX4_takes_57 rfl (lv_at hl 1 rfl) ?_
  obtain ⟨v31, e32, hF⟩ := ob_s hF
  refine m_getI X hp e32 kX4 (Nat.le_of_ble_eq_true rfl) q272 dX4_takes_58 ?_
  obtain ⟨M33, e34, hF⟩ := ob_s hF
  refine m_putW X hp e34 kX4 (Nat.le_of_ble_eq_true rfl) q272 rfl rfl rfl dX4_takes_61 (fun H locs hp => ?_)
  refine lv_aload_n hx hb dX4_takes_64 rfl (lv_at hl 0 rfl) ?_
  refine lv_aload_n hx hb dX4_takes_65 rfl (lv_at hl 1 rfl) ?_
  obtain ⟨v35, e36, hF⟩ := ob_s hF
  refine m_getI X hp e36 kX4 (Nat.le_of_ble_eq_true rfl) q273 dX4_takes_66 ?_
  obtain ⟨M37, e38, hF⟩ := ob_s hF
  refine m_putW X hp e38 kX4 (Nat.le_of_ble_eq_true rfl) q273 rfl rfl rfl dX4_takes_69 (fun H locs hp => ?_)
  refine lv_aload_n hx hb dX4_takes_72 rfl (lv_at hl 0 rfl) ?_
  refine lv_aload_n hx hb dX4_takes_73 rfl (lv_at hl 1 rfl) ?_
  obtain ⟨v39, e40, hF⟩ := ob_s hF
  refine m_getI X hp e40 kX4 (Nat.le_of_ble_eq_true rfl) q276 dX4_takes_74 ?_
  obtain ⟨M41, e42, hF⟩ := ob_s hF
  refine m_putW X hp e42 kX4 (Nat.le_of_ble_eq_true rfl) q276 rfl rfl rfl dX4_takes_77 (fun H locs hp => ?_)
  refine lv_aload_n hx hb dX4_takes_80 rfl (lv_at hl 0 rfl) ?_
  refine lv_aload_n hx hb dX4_takes_81 rfl (lv_at hl 1 rfl) ?_
  obtain ⟨v43, e44, hF⟩ := ob_s hF
  refine m_getI X hp e44 kX4 (Nat.le_of_ble_eq_true rfl) q279 dX4_takes_82 ?_
  obtain ⟨M45, e46, hF⟩ := ob_s hF
  refine m_putW X hp e46 kX4 (Nat.le_of_ble_eq_true rfl) q279 rfl rfl rfl dX4_takes_85 (fun H locs hp => ?_)
  cases hF
  exact m_vret X hp dX4_takes_88
end
section
variable {l : Launch} {D : va_G} {n0 : Nat} {P : mP} {S : mSh} {M : mMm} {n : Nat} {p : Program} {e : Env} {s : State} {m : MethodId} {args : Array Value} {below : List Frame} {meth : Method} {c : Code}
abbrev Rm_X1_moves : Room := { frames := 4, cells := 0, slots := 0, locals := 82 }
def fb_X1_moves_29 (S : mSh) : Nat → mMm → Nat → Nat → Int32 → Option mMm
  | 0, _, _, _, _ => none
  | t + 1, M, x0, x1, x2 => (if (16 : Int32) ≤ x2 then ob (rI S M x1 2 11) fun v17 => ob (wF S M x0 2 11 (.int v17)) fun M19 => ob (rI S M19 x1 2 12) fun v21 => ob (wF S M19 x0 2 12 (.int v21)) fun M23 => ob (rI S M23 x1 2 13) fun v25 => ob (wF S M23 x0 2 13 (.int v25)) fun M27 => ob (rI S M27 x1 2 14) fun v29 => ob (wF S M27 x0 2 14 (.int v29)) fun M31 => some M31 else ob (rR S M x0 2 1) fun v33 => ob (aR S M v33 104 x2) fun v35 => ob (rR S M x1 2 1) fun v37 => ob (aR S M v37 104 x2) fun v39 => gd ((S v35).1 = 5) (ob (f_X4_takes S M v35 v39) fun M44 => nm (x2 + (1 : Int32)) fun v45 => (fb_X1_moves_29 S t M44 x0 x1 v45)))
theorem b_X1_moves_29 {M' : mMm} (X : mCx D n0 P p m c cX1_moves 3 s args yX1_moves.cls meth none) : ∀ t : Nat, ∀ (M : mMm) (x0 : Nat) (x1 : Nat) (x2 : Int32) (H : Heap) (locs : List Loc) (ls : Array Slot), mHp D n0 S M n s H locs → lv_has ls 3 [(0, .ref x0), (1, .ref x1), (2, .int x2)] → fb_X1_moves_29 S t M x0 x1 x2 = some M' → W p l e Rm_X1_moves s m args below meth c H locs 0 0 (MQ below (mQ D n0 none S M' n) args s 0 0 (mA n0)) (F0 m 29 ls []) := by
  have hx := X.1.1
  have hb := X.1.2.1
  have hown := X.1.2.2.2.1
  have hts := X.1.2.2.2.2
  intro t
  induction t with
  | zero =>
    intro M x0 x1 x2 H locs ls hp hl hF
    have hF : none = some M' := hF
    cases hF
  | succ t ih =>
    intro M x0 x1 x2 H locs ls hp hl hF
    rw [fb_X1_moves_29] at hF
    refine lv_iload_n hx hb dX1_moves_29 rfl (lv_at hl 2 rfl) ?_
    refine lv_bipush (v := 16) hx hb dX1_moves_30 (by decide) ?_
    refine lv_icmp_ge (tgt := 56) hx hb dX1_moves_32 (by decide) (fun c16 => ?_) (fun c16 => ?_)
    · have hF := if_p c16 hF
      refine lv_aload_n hx hb dX1_moves_56 rfl (lv_at hl 0 rfl) ?_
      refine lv_aload_n hx hb dX1_moves_57 rfl (lv_at hl 1 rfl) ?_
      obtain ⟨v17, e18, hF⟩ := ob_s hF
      refine m_getI X hp e18 kX1 (Nat.le_of_ble_eq_true rfl) q398 dX1_moves_58 ?_
      obtain ⟨M19, e20, hF⟩ := ob_s hF
      refine m_putW X hp e20 kX1 (Nat.le_of_ble_eq_true rfl) q398 rfl rfl rfl dX1_moves_61 (fun H locs hp => ?_)
      refine lv_aload_n hx hb dX1_moves_64 rfl (lv_at hl 0 rfl) ?_
      refine lv_aload_n hx hb dX1_moves_65 rfl (lv_at hl 1 rfl) ?_
      obtain ⟨v21, e22, hF⟩ := ob_s hF
      refine m_getI X hp e22 kX1 (Nat.le_of_ble_eq_true rfl) q400 dX1_moves_66 ?_
      obtain ⟨M23, e24, hF⟩ := ob_s hF
      refine m_putW X hp e24 kX1 (Nat.le_of_ble_eq_true rfl) q400 rfl rfl rfl dX1_moves_69 (fun H locs hp => ?_)
      refine lv_aload_n hx hb dX1_moves_72 rfl (lv_at hl 0 rfl) ?_
      refine lv_aload_n hx hb dX1_moves_73 rfl (lv_at hl 1 rfl) ?_
      obtain ⟨v25, e26, hF⟩ := ob_s hF
      refine m_getI X hp e26 kX1 (Nat.le_of_ble_eq_true rfl) q402 dX1_moves_74 ?_
      obtain ⟨M27, e28, hF⟩ := ob_s hF
      refine m_putW X hp e28 kX1 (Nat.le_of_ble_eq_true rfl) q402 rfl rfl rfl dX1_moves_77 (fun H locs hp => ?_)
      refine lv_aload_n hx hb dX1_moves_80 rfl (lv_at hl 0 rfl) ?_
      refine lv_aload_n hx hb dX1_moves_81 rfl (lv_at hl 1 rfl) ?_
      obtain ⟨v29, e30, hF⟩ := ob_s hF
      refine m_getI X hp e30 kX1 (Nat.le_of_ble_eq_true rfl) q404 dX1_moves_82 ?_
      obtain ⟨M31, e32, hF⟩ := ob_s hF
      refine m_putW X hp e32 kX1 (Nat.le_of_ble_eq_true rfl) q404 rfl rfl rfl dX1_moves_85 (fun H locs hp => ?_)
      cases hF
      exact m_vret X hp dX1_moves_88
    · have hF := if_n c16 hF
      refine lv_aload_n hx hb dX1_moves_35 rfl (lv_at hl 0 rfl) ?_
      obtain ⟨v33, e34, hF⟩ := ob_s hF
      refine m_getR X hp e34 kX1 (Nat.le_of_ble_eq_true rfl) q377 dX1_moves_36 ?_
      refine lv_iload_n hx hb dX1_moves_39 rfl (lv_at hl 2 rfl) ?_
      obtain ⟨v35, e36, hF⟩ := ob_s hF
      refine m_aaR 104 X hp e36 rfl (by decide) rfl dX1_moves_40 ?_
      refine lv_aload_n hx hb dX1_moves_41 rfl (lv_at hl 1 rfl) ?_
      obtain ⟨v37, e38, hF⟩ := ob_s hF
      refine m_getR X hp e38 kX1 (Nat.le_of_ble_eq_true rfl) q377 dX1_moves_42 ?_
      refine lv_iload_n hx hb dX1_moves_45 rfl (lv_at hl 2 rfl) ?_
      obtain ⟨v39, e40, hF⟩ := ob_s hF
      refine m_aaR 104 X hp e40 rfl (by decide) rfl dX1_moves_46 ?_
      obtain ⟨g41, hF⟩ := gd_s hF
      obtain ⟨M44, e42, hF⟩ := ob_s hF
      refine m_callV (As := [.ref v39]) (rest := []) X hp (w_X4_takes e42) q997 q998 q999 q139 q1000 1 rfl ds_X4_takes ⟨Nat.le_of_ble_eq_true rfl, Nat.le_of_ble_eq_true rfl⟩ 5 (T := TX4) (N := 11) rfl (by decide) g41 hl.1 rfl (Nat.le_of_ble_eq_true rfl) dX1_moves_47 ⟨Nat.le_refl 0, Nat.le_refl 0⟩ (fun H locs hp => ?_)
      obtain ⟨v45, ev46⟩ : ∃ y : Int32, y = x2 + (1 : Int32) := ⟨_, rfl⟩
      have hF := nm_s hF ev46
      refine lv_iinc (v := v45) (lv' := [(2, .int v45), (0, .ref x0), (1, .ref x1)]) hx hb dX1_moves_50 hl (k := 2) rfl (by rw [ev46]; rfl) (by decide) rfl (fun ls hl => ?_)
      refine lv_goto (tgt := 29) hx hb dX1_moves_53 (by decide) ?_
      exact ih _ _ _ _ _ _ _ hp (lv_sub hl [1, 2, 0] rfl) hF
def fb_X1_moves_2 (S : mSh) : Nat → mMm → Nat → Nat → Int32 → Option mMm
  | 0, _, _, _, _ => none
  | t + 1, M, x0, x1, x2 => (if (144 : Int32) ≤ x2 then nm ((0 : Int32)) fun v4 => (fb_X1_moves_29 S FU M x0 x1 v4) else ob (rR S M x0 2 0) fun v6 => ob (rR S M x1 2 0) fun v8 => ob (aI S M v8 100 x2) fun v10 => ob (wA S M v6 100 x2 (.int v10)) fun M12 => nm (x2 + (1 : Int32)) fun v14 => (fb_X1_moves_2 S t M12 x0 x1 v14))
theorem b_X1_moves_2 {M' : mMm} (X : mCx D n0 P p m c cX1_moves 3 s args yX1_moves.cls meth none) : ∀ t : Nat, ∀ (M : mMm) (x0 : Nat) (x1 : Nat) (x2 : Int32) (H : Heap) (locs : List Loc) (ls : Array Slot), mHp D n0 S M n s H locs → lv_has ls 3 [(0, .ref x0), (1, .ref x1), (2, .int x2)] → fb_X1_moves_2 S t M x0 x1 x2 = some M' → W p l e Rm_X1_moves s m args below meth c H locs 0 0 (MQ below (mQ D n0 none S M' n) args s 0 0 (mA n0)) (F0 m 2 ls []) := by
  have hx := X.1.1
  have hb := X.1.2.1
  have hown := X.1.2.2.2.1
  have hts := X.1.2.2.2.2
  intro t
  induction t with
  | zero =>
    intro M x0 x1 x2 H locs ls hp hl hF
    have hF : none = some M' := hF
    cases hF
  | succ t ih =>
    intro M x0 x1 x2 H locs ls hp hl hF
    rw [fb_X1_moves_2] at hF
    refine lv_iload_n hx hb dX1_moves_2 rfl (lv_at hl 2 rfl) ?_
    refine lv_sipush (v := 144) hx hb dX1_moves_3 (by decide) ?_
    refine lv_icmp_ge (tgt := 27) hx hb dX1_moves_6 (by decide) (fun c3 => ?_) (fun c3 => ?_)
    · have hF := if_p c3 hF
      refine lv_iconst (v := 0) hx hb dX1_moves_27 (by decide) ?_
      refine lv_topi (fun v4 ev5 => ?_)
      have hF := nm_s hF ev5
      refine lv_istore_n (lv' := [(2, .int v4), (0, .ref x0), (1, .ref x1)]) hx hb dX1_moves_28 rfl hl (by decide) rfl (fun ls hl => ?_)
      exact b_X1_moves_29 X _ _ _ _ _ _ _ _ hp (lv_sub hl [1, 2, 0] rfl) hF
    · have hF := if_n c3 hF
      refine lv_aload_n hx hb dX1_moves_9 rfl (lv_at hl 0 rfl) ?_
      obtain ⟨v6, e7, hF⟩ := ob_s hF
      refine m_getR X hp e7 kX1 (Nat.le_of_ble_eq_true rfl) q375 dX1_moves_10 ?_
      refine lv_iload_n hx hb dX1_moves_13 rfl (lv_at hl 2 rfl) ?_
      refine lv_aload_n hx hb dX1_moves_14 rfl (lv_at hl 1 rfl) ?_
      obtain ⟨v8, e9, hF⟩ := ob_s hF
      refine m_getR X hp e9 kX1 (Nat.le_of_ble_eq_true rfl) q375 dX1_moves_15 ?_
      refine lv_iload_n hx hb dX1_moves_18 rfl (lv_at hl 2 rfl) ?_
      obtain ⟨v10, e11, hF⟩ := ob_s hF
      refine m_iaI X hp e11 dX1_moves_19 ?_
      obtain ⟨M12, e13, hF⟩ := ob_s hF
      refine m_iaW X hp e13 dX1_moves_20 (fun H locs hp => ?_)
      obtain ⟨v14, ev15⟩ : ∃ y : Int32, y = x2 + (1 : Int32) := ⟨_, rfl⟩
      have hF := nm_s hF ev15
      refine lv_iinc (v := v14) (lv' := [(2, .int v14), (0, .ref x0), (1, .ref x1)]) hx hb dX1_moves_21 hl (k := 2) rfl (by rw [ev15]; rfl) (by decide) rfl (fun ls hl => ?_)
      refine lv_goto (tgt := 2) hx hb dX1_moves_24 (by decide) ?_
      exact ih _ _ _ _ _ _ _ hp (lv_sub hl [1, 2, 0] rfl) hF
def f_X1_moves (S : mSh) (M : mMm) (x0 : Nat) (x1 : Nat) : Option mMm := nm ((0 : Int32)) fun v1 => (fb_X1_moves_2 S FU M x0 x1 v1)
theorem w_X1_moves {x0 : Nat} {x1 : Nat} {M' : mMm} (hF : f_X1_moves S M x0 x1 = some M') : mCt l D n0 P yX1_moves cX1_moves 3 none 4 82 0 0 [.ref x0, .ref x1] S M n none S M' n := by
  refine m_ofW (by decide) (Nat.le_of_ble_eq_true rfl) (fun p e s m below meth c X hnm hp ls hl => ?_)
  have hx := X.1.1
  have hb := X.1.2.1
  have hown := X.1.2.2.2.1
  have hts := X.1.2.2.2.2
  have hl : lv_has ls 3 [(0, .ref x0), (1, .ref x1)] := hl
  unfold f_X1_moves at hF
  refine lv_iconst (v := 0) hx hb dX1_moves_0 (by decide) ?_
  refine lv_topi (fun v1 ev2 => ?_)
  have hF := nm_s hF ev2
  refine lv_istore_n (lv' := [(2, .int v1), (0, .ref x0), (1, .ref x1)]) hx hb dX1_moves_1 rfl hl (by decide) rfl (fun ls hl => ?_)
  exact b_X1_moves_2 X _ _ _ _ _ _ _ _ hp (lv_sub hl [1, 2, 0] rfl) hF
end
section
variable {l : Launch} {D : va_G} {n0 : Nat} {P : mP} {S : mSh} {M : mMm} {n : Nat} {p : Program} {e : Env} {s : State} {m : MethodId} {args : Array Value} {below : List Frame} {meth : Method} {c : Code}
abbrev Rm_X0_remembers : Room := { frames := 5, cells := 0, slots := 0, locals := 104 }
def fb_X0_remembers_61 (S : mSh) (M : mMm) (x0 : Nat) : Option (Int32 × mMm) := ob (rR S M x0 1 7) fun v31 => ob (rI S M x0 1 8) fun v33 => ob (aR S M v31 106 v33) fun v35 => ob (rR S M x0 1 4) fun v37 => gd ((S v35).1 = 2) (ob (f_X1_moves S M v35 v37) fun M42 => ob (rI S M42 x0 1 8) fun v43 => ob (wF S M42 x0 1 8 (.int (v43 + (1 : Int32)))) fun M45 => some ((1 : Int32), M45))
theorem b_X0_remembers_61 {r : Int32} {M' : mMm} (X : mCx D n0 P p m c cX0_remembers 3 s args yX0_remembers.cls meth (some .boolean)) : ∀ (M : mMm) (x0 : Nat) (H : Heap) (locs : List Loc) (ls : Array Slot), mHp D n0 S M n s H locs → lv_has ls 3 [(0, .ref x0)] → fb_X0_remembers_61 S M x0 = some (r, M') → W p l e Rm_X0_remembers s m args below meth c H locs 0 0 (MQ below (mQ D n0 (some (.int r)) S M' n) args s 0 0 (mA n0)) (F0 m 61 ls []) := by
  have hx := X.1.1
  have hb := X.1.2.1
  have hown := X.1.2.2.2.1
  have hts := X.1.2.2.2.2
  intro M x0 H locs ls hp hl hF
  unfold fb_X0_remembers_61 at hF
  refine lv_aload_n hx hb dX0_remembers_61 rfl (lv_at hl 0 rfl) ?_
  obtain ⟨v31, e32, hF⟩ := ob_s hF
  refine m_getR X hp e32 kX0 (Nat.le_of_ble_eq_true rfl) q467 dX0_remembers_62 ?_
  refine lv_aload_n hx hb dX0_remembers_65 rfl (lv_at hl 0 rfl) ?_
  obtain ⟨v33, e34, hF⟩ := ob_s hF
  refine m_getI X hp e34 kX0 (Nat.le_of_ble_eq_true rfl) q468 dX0_remembers_66 ?_
  obtain ⟨v35, e36, hF⟩ := ob_s hF
  refine m_aaR 106 X hp e36 rfl (by decide) rfl dX0_remembers_69 ?_
  refine lv_aload_n hx hb dX0_remembers_70 rfl (lv_at hl 0 rfl) ?_
  obtain ⟨v37, e38, hF⟩ := ob_s hF
  refine m_getR X hp e38 kX0 (Nat.le_of_ble_eq_true rfl) q463 dX0_remembers_71 ?_
  obtain ⟨g39, hF⟩ := gd_s hF
  obtain ⟨M42, e40, hF⟩ := ob_s hF
  refine m_callV (As := [.ref v37]) (rest := []) X hp (w_X1_moves e40) q993 q994 q995 q133 q996 1 rfl ds_X1_moves ⟨Nat.le_of_ble_eq_true rfl, Nat.le_of_ble_eq_true rfl⟩ 2 (T := TX1) (N := 19) rfl (by decide) g39 hl.1 rfl (Nat.le_of_ble_eq_true rfl) dX0_remembers_74 ⟨Nat.le_refl 0, Nat.le_refl 0⟩ (fun H locs hp => ?_)
  refine lv_aload_n hx hb dX0_remembers_77 rfl (lv_at hl 0 rfl) ?_
  refine lv_dup hx hb dX0_remembers_78 rfl ?_
  obtain ⟨v43, e44, hF⟩ := ob_s hF
  refine m_getI X hp e44 kX0 (Nat.le_of_ble_eq_true rfl) q468 dX0_remembers_79 ?_
  refine lv_iconst (v := 1) hx hb dX0_remembers_82 (by decide) ?_
  refine lv_iadd hx hb dX0_remembers_83 ?_
  obtain ⟨M45, e46, hF⟩ := ob_s hF
  refine m_putW X hp e46 kX0 (Nat.le_of_ble_eq_true rfl) q468 rfl rfl rfl dX0_remembers_84 (fun H locs hp => ?_)
  refine lv_iconst (v := 1) hx hb dX0_remembers_87 (by decide) ?_
  cases hF
  exact m_zret X hp rfl dX0_remembers_88
def fb_X0_remembers_18 (S : mSh) : Nat → mMm → Nat → Nat → Int32 → Option (Int32 × mMm)
  | 0, _, _, _, _ => none
  | t + 1, M, x0, x1, x2 => (if (6 : Int32) ≤ x2 then ob (rR S M x0 1 7) fun v11 => gd ((S x1).1 = 2) (ob (wA S M v11 106 (5 : Int32) (.ref x1)) fun M13 => ob (rI S M13 x0 1 8) fun v16 => ob (wF S M13 x0 1 8 (.int (v16 - (1 : Int32)))) fun M18 => (fb_X0_remembers_61 S M18 x0)) else ob (rR S M x0 1 7) fun v20 => ob (rR S M x0 1 7) fun v22 => ob (aR S M v22 106 x2) fun v24 => gd ((S v24).1 = 2) (ob (wA S M v20 106 (x2 - (1 : Int32)) (.ref v24)) fun M26 => nm (x2 + (1 : Int32)) fun v29 => (fb_X0_remembers_18 S t M26 x0 x1 v29)))
theorem b_X0_remembers_18 {r : Int32} {M' : mMm} (X : mCx D n0 P p m c cX0_remembers 3 s args yX0_remembers.cls meth (some .boolean)) : ∀ t : Nat, ∀ (M : mMm) (x0 : Nat) (x1 : Nat) (x2 : Int32) (H : Heap) (locs : List Loc) (ls : Array Slot), mHp D n0 S M n s H locs → lv_has ls 3 [(0, .ref x0), (1, .ref x1), (2, .int x2)] → fb_X0_remembers_18 S t M x0 x1 x2 = some (r, M') → W p l e Rm_X0_remembers s m args below meth c H locs 0 0 (MQ below (mQ D n0 (some (.int r)) S M' n) args s 0 0 (mA n0)) (F0 m 18 ls []) := by
  have hx := X.1.1
  have hb := X.1.2.1
  have hown := X.1.2.2.2.1
  have hts := X.1.2.2.2.2
  intro t
  induction t with
  | zero =>
    intro M x0 x1 x2 H locs ls hp hl hF
    have hF : none = some (r, M') := hF
    cases hF
  | succ t ih =>
    intro M x0 x1 x2 H locs ls hp hl hF
    rw [fb_X0_remembers_18] at hF
    refine lv_iload_n hx hb dX0_remembers_18 rfl (lv_at hl 2 rfl) ?_
    refine lv_bipush (v := 6) hx hb dX0_remembers_19 (by decide) ?_
    refine lv_icmp_ge (tgt := 44) hx hb dX0_remembers_21 (by decide) (fun c10 => ?_) (fun c10 => ?_)
    · have hF := if_p c10 hF
      refine lv_aload_n hx hb dX0_remembers_44 rfl (lv_at hl 0 rfl) ?_
      obtain ⟨v11, e12, hF⟩ := ob_s hF
      refine m_getR X hp e12 kX0 (Nat.le_of_ble_eq_true rfl) q467 dX0_remembers_45 ?_
      refine lv_iconst (v := 5) hx hb dX0_remembers_48 (by decide) ?_
      refine lv_aload_n hx hb dX0_remembers_49 rfl (lv_at hl 1 rfl) ?_
      obtain ⟨g15, hF⟩ := gd_s hF
      obtain ⟨M13, e14, hF⟩ := ob_s hF
      refine m_aaW 106 2 X hp e14 rfl (by decide) (r := (RX1, TX1, 19)) rfl (by decide) g15 dX0_remembers_50 (fun H locs hp => ?_)
      refine lv_aload_n hx hb dX0_remembers_51 rfl (lv_at hl 0 rfl) ?_
      refine lv_dup hx hb dX0_remembers_52 rfl ?_
      obtain ⟨v16, e17, hF⟩ := ob_s hF
      refine m_getI X hp e17 kX0 (Nat.le_of_ble_eq_true rfl) q468 dX0_remembers_53 ?_
      refine lv_iconst (v := 1) hx hb dX0_remembers_56 (by decide) ?_
      refine lv_isub hx hb dX0_remembers_57 ?_
      obtain ⟨M18, e19, hF⟩ := ob_s hF
      refine m_putW X hp e19 kX0 (Nat.le_of_ble_eq_true rfl) q468 rfl rfl rfl dX0_remembers_58 (fun H locs hp => ?_)
      exact b_X0_remembers_61 X _ _ _ _ _ hp (lv_sub hl [0] rfl) hF
    · have hF := if_n c10 hF
      refine lv_aload_n hx hb dX0_remembers_24 rfl (lv_at hl 0 rfl) ?_
      obtain ⟨v20, e21, hF⟩ := ob_s hF
      refine m_getR X hp e21 kX0 (Nat.le_of_ble_eq_true rfl) q467 dX0_remembers_25 ?_
      refine lv_iload_n hx hb dX0_remembers_28 rfl (lv_at hl 2 rfl) ?_
      refine lv_iconst (v := 1) hx hb dX0_remembers_29 (by decide) ?_
      refine lv_isub hx hb dX0_remembers_30 ?_
      refine lv_aload_n hx hb dX0_remembers_31 rfl (lv_at hl 0 rfl) ?_
      obtain ⟨v22, e23, hF⟩ := ob_s hF
      refine m_getR X hp e23 kX0 (Nat.le_of_ble_eq_true rfl) q467 dX0_remembers_32 ?_
      refine lv_iload_n hx hb dX0_remembers_35 rfl (lv_at hl 2 rfl) ?_
      obtain ⟨v24, e25, hF⟩ := ob_s hF
      refine m_aaR 106 X hp e25 rfl (by decide) rfl dX0_remembers_36 ?_
      obtain ⟨g28, hF⟩ := gd_s hF
      obtain ⟨M26, e27, hF⟩ := ob_s hF
      refine m_aaW 106 2 X hp e27 rfl (by decide) (r := (RX1, TX1, 19)) rfl (by decide) g28 dX0_remembers_37 (fun H locs hp => ?_)
      obtain ⟨v29, ev30⟩ : ∃ y : Int32, y = x2 + (1 : Int32) := ⟨_, rfl⟩
      have hF := nm_s hF ev30
      refine lv_iinc (v := v29) (lv' := [(2, .int v29), (0, .ref x0), (1, .ref x1)]) hx hb dX0_remembers_38 hl (k := 2) rfl (by rw [ev30]; rfl) (by decide) rfl (fun ls hl => ?_)
      refine lv_goto (tgt := 18) hx hb dX0_remembers_41 (by decide) ?_
      exact ih _ _ _ _ _ _ _ hp (lv_sub hl [1, 2, 0] rfl) hF
def f_X0_remembers (S : mSh) (M : mMm) (x0 : Nat) : Option (Int32 × mMm) := ob (rI S M x0 1 8) fun v1 => (if v1 = (6 : Int32) then ob (rR S M x0 1 7) fun v4 => ob (aR S M v4 106 (0 : Int32)) fun v6 => nm ((1 : Int32)) fun v8 => (fb_X0_remembers_18 S FU M x0 v6 v8) else (fb_X0_remembers_61 S M x0))
theorem w_X0_remembers {x0 : Nat} {r : Int32} {M' : mMm} (hF : f_X0_remembers S M x0 = some (r, M')) : mCt l D n0 P yX0_remembers cX0_remembers 3 (some .boolean) 5 104 0 0 [.ref x0] S M n (some (.int r)) S M' n := by
  refine m_ofW (by decide) (Nat.le_of_ble_eq_true rfl) (fun p e s m below meth c X hnm hp ls hl => ?_)
  have hx := X.1.1
  have hb := X.1.2.1
  have hown := X.1.2.2.2.1
  have hts := X.1.2.2.2.2
  have hl : lv_has ls 3 [(0, .ref x0)] := hl
  unfold f_X0_remembers at hF
  refine lv_aload_n hx hb dX0_remembers_0 rfl (lv_at hl 0 rfl) ?_
  obtain ⟨v1, e2, hF⟩ := ob_s hF
  refine m_getI X hp e2 kX0 (Nat.le_of_ble_eq_true rfl) q468 dX0_remembers_1 ?_
  refine lv_bipush (v := 6) hx hb dX0_remembers_4 (by decide) ?_
  refine lv_icmp_ne (tgt := 61) hx hb dX0_remembers_6 (by decide) (fun c3 => ?_) (fun c3 => ?_)
  · have hF := if_n c3 hF
    exact b_X0_remembers_61 X _ _ _ _ _ hp (lv_sub hl [0] rfl) hF
  · have hF := if_p c3 hF
    refine lv_aload_n hx hb dX0_remembers_9 rfl (lv_at hl 0 rfl) ?_
    obtain ⟨v4, e5, hF⟩ := ob_s hF
    refine m_getR X hp e5 kX0 (Nat.le_of_ble_eq_true rfl) q467 dX0_remembers_10 ?_
    refine lv_iconst (v := 0) hx hb dX0_remembers_13 (by decide) ?_
    obtain ⟨v6, e7, hF⟩ := ob_s hF
    refine m_aaR 106 X hp e7 rfl (by decide) rfl dX0_remembers_14 ?_
    refine lv_astore_n (lv' := [(1, .ref v6), (0, .ref x0)]) hx hb dX0_remembers_15 rfl hl (by decide) rfl (fun ls hl => ?_)
    refine lv_iconst (v := 1) hx hb dX0_remembers_16 (by decide) ?_
    refine lv_topi (fun v8 ev9 => ?_)
    have hF := nm_s hF ev9
    refine lv_istore_n (lv' := [(2, .int v8), (1, .ref v6), (0, .ref x0)]) hx hb dX0_remembers_17 rfl hl (by decide) rfl (fun ls hl => ?_)
    exact b_X0_remembers_18 X _ _ _ _ _ _ _ _ hp (lv_sub hl [2, 1, 0] rfl) hF
end
section
variable {l : Launch} {D : va_G} {n0 : Nat} {P : mP} {S : mSh} {M : mMm} {n : Nat} {p : Program} {e : Env} {s : State} {m : MethodId} {args : Array Value} {below : List Frame} {meth : Method} {c : Code}
abbrev Rm_X4_comes : Room := { frames := 2, cells := 0, slots := 0, locals := 40 }
def f_X4_comes (S : mSh) (M : mMm) (x0 : Nat) (x1 : Int32) (x2 : Int32) : Option mMm := gd ((S x0).1 = 5) (ob (f_X4_goes S M x0) fun M4 => ob (wF S M4 x0 5 5 (.int x1)) fun M5 => ob (wF S M5 x0 5 1 (.int x2)) fun M7 => ob (wF S M7 x0 5 2 (.int x1)) fun M9 => some M9)
theorem w_X4_comes {x0 : Nat} {x1 : Int32} {x2 : Int32} {M' : mMm} (hF : f_X4_comes S M x0 x1 x2 = some M') : mCt l D n0 P yX4_comes cX4_comes 3 none 2 40 0 0 [.ref x0, .int x1, .int x2] S M n none S M' n := by
  refine m_ofW (by decide) (Nat.le_of_ble_eq_true rfl) (fun p e s m below meth c X hnm hp ls hl => ?_)
  have hx := X.1.1
  have hb := X.1.2.1
  have hown := X.1.2.2.2.1
  have hts := X.1.2.2.2.2
  have hl : lv_has ls 3 [(0, .ref x0), (1, .int x1), (2, .int x2)] := hl
  unfold f_X4_comes at hF
  refine lv_aload_n hx hb dX4_comes_0 rfl (lv_at hl 0 rfl) ?_
  obtain ⟨g1, hF⟩ := gd_s hF
  obtain ⟨M4, e2, hF⟩ := ob_s hF
  refine m_callV (As := []) (rest := []) X hp (w_X4_goes e2) q1005 q306 q307 q139 q308 0 rfl ds_X4_goes ⟨Nat.le_of_ble_eq_true rfl, Nat.le_of_ble_eq_true rfl⟩ 5 (T := TX4) (N := 11) rfl (by decide) g1 hl.1 rfl (Nat.le_of_ble_eq_true rfl) dX4_comes_1 ⟨Nat.le_refl 0, Nat.le_refl 0⟩ (fun H locs hp => ?_)
  refine lv_aload_n hx hb dX4_comes_4 rfl (lv_at hl 0 rfl) ?_
  refine lv_iload_n hx hb dX4_comes_5 rfl (lv_at hl 1 rfl) ?_
  obtain ⟨M5, e6, hF⟩ := ob_s hF
  refine m_putW X hp e6 kX4 (Nat.le_of_ble_eq_true rfl) q266 rfl rfl rfl dX4_comes_6 (fun H locs hp => ?_)
  refine lv_aload_n hx hb dX4_comes_9 rfl (lv_at hl 0 rfl) ?_
  refine lv_iload_n hx hb dX4_comes_10 rfl (lv_at hl 2 rfl) ?_
  obtain ⟨M7, e8, hF⟩ := ob_s hF
  refine m_putW X hp e8 kX4 (Nat.le_of_ble_eq_true rfl) q254 rfl rfl rfl dX4_comes_11 (fun H locs hp => ?_)
  refine lv_aload_n hx hb dX4_comes_14 rfl (lv_at hl 0 rfl) ?_
  refine lv_iload_n hx hb dX4_comes_15 rfl (lv_at hl 1 rfl) ?_
  obtain ⟨M9, e10, hF⟩ := ob_s hF
  refine m_putW X hp e10 kX4 (Nat.le_of_ble_eq_true rfl) q257 rfl rfl rfl dX4_comes_16 (fun H locs hp => ?_)
  cases hF
  exact m_vret X hp dX4_comes_19
end
section
variable {l : Launch} {D : va_G} {n0 : Nat} {P : mP} {S : mSh} {M : mMm} {n : Nat} {p : Program} {e : Env} {s : State} {m : MethodId} {args : Array Value} {below : List Frame} {meth : Method} {c : Code}
abbrev Rm_X1_notes : Room := { frames := 0, cells := 0, slots := 0, locals := 0 }
def f_X1_notes (S : mSh) (M : mMm) (x0 : Nat) (x1 : Int32) (x2 : Int32) (x3 : Int32) : Option mMm := ob (rI S M x0 2 17) fun v1 => (if v1 = 0 then ob (rI S M x0 2 14) fun v4 => (if v4 = (150 : Int32) then some M else ob (rR S M x0 2 3) fun v7 => ob (rI S M x0 2 14) fun v9 => ob (aR S M v7 108 v9) fun v11 => ob (rI S M x0 2 11) fun v13 => ob (wA S M v11 100 (0 : Int32) (.int v13)) fun M15 => ob (wA S M15 v11 100 (1 : Int32) (.int x1)) fun M17 => ob (wA S M17 v11 100 (2 : Int32) (.int x2)) fun M19 => ob (wA S M19 v11 100 (3 : Int32) (.int x3)) fun M21 => ob (rI S M21 x0 2 14) fun v23 => ob (wF S M21 x0 2 14 (.int (v23 + (1 : Int32)))) fun M25 => some M25) else some M)
theorem w_X1_notes {x0 : Nat} {x1 : Int32} {x2 : Int32} {x3 : Int32} {M' : mMm} (hF : f_X1_notes S M x0 x1 x2 x3 = some M') : mCt l D n0 P yX1_notes cX1_notes 5 none 0 0 0 0 [.ref x0, .int x1, .int x2, .int x3] S M n none S M' n := by
  refine m_ofW (by decide) (Nat.le_of_ble_eq_true rfl) (fun p e s m below meth c X hnm hp ls hl => ?_)
  have hx := X.1.1
  have hb := X.1.2.1
  have hown := X.1.2.2.2.1
  have hts := X.1.2.2.2.2
  have hl : lv_has ls 5 [(0, .ref x0), (1, .int x1), (2, .int x2), (3, .int x3)] := hl
  unfold f_X1_notes at hF
  refine lv_aload_n hx hb dX1_notes_0 rfl (lv_at hl 0 rfl) ?_
  obtain ⟨v1, e2, hF⟩ := ob_s hF
  refine m_getI X hp e2 kX1 (Nat.le_of_ble_eq_true rfl) q411 dX1_notes_1 ?_
  refine lv_if_ne (tgt := 17) hx hb dX1_notes_4 (by decide) (fun c3 => ?_) (fun c3 => ?_)
  · have hF := if_n c3 hF
    cases hF
    exact m_vret X hp dX1_notes_17
  · have hF := if_p c3 hF
    refine lv_aload_n hx hb dX1_notes_7 rfl (lv_at hl 0 rfl) ?_
    obtain ⟨v4, e5, hF⟩ := ob_s hF
    refine m_getI X hp e5 kX1 (Nat.le_of_ble_eq_true rfl) q404 dX1_notes_8 ?_
    refine lv_sipush (v := 150) hx hb dX1_notes_11 (by decide) ?_
    refine lv_icmp_ne (tgt := 18) hx hb dX1_notes_14 (by decide) (fun c6 => ?_) (fun c6 => ?_)
    · have hF := if_n c6 hF
      refine lv_aload_n hx hb dX1_notes_18 rfl (lv_at hl 0 rfl) ?_
      obtain ⟨v7, e8, hF⟩ := ob_s hF
      refine m_getR X hp e8 kX1 (Nat.le_of_ble_eq_true rfl) q381 dX1_notes_19 ?_
      refine lv_aload_n hx hb dX1_notes_22 rfl (lv_at hl 0 rfl) ?_
      obtain ⟨v9, e10, hF⟩ := ob_s hF
      refine m_getI X hp e10 kX1 (Nat.le_of_ble_eq_true rfl) q404 dX1_notes_23 ?_
      obtain ⟨v11, e12, hF⟩ := ob_s hF
      refine m_aaR 108 X hp e12 rfl (by decide) rfl dX1_notes_26 ?_
      refine lv_astore (lv' := [(4, .ref v11), (0, .ref x0), (1, .int x1), (2, .int x2), (3, .int x3)]) hx hb dX1_notes_27 hl (by decide) rfl (fun ls hl => ?_)
      refine lv_aload hx hb dX1_notes_29 (lv_at hl 0 rfl) ?_
      refine lv_iconst (v := 0) hx hb dX1_notes_31 (by decide) ?_
      refine lv_aload_n hx hb dX1_notes_32 rfl (lv_at hl 1 rfl) ?_
      obtain ⟨v13, e14, hF⟩ := ob_s hF
      refine m_getI X hp e14 kX1 (Nat.le_of_ble_eq_true rfl) q398 dX1_notes_33 ?_
      obtain ⟨M15, e16, hF⟩ := ob_s hF
      refine m_iaW X hp e16 dX1_notes_36 (fun H locs hp => ?_)
      refine lv_aload hx hb dX1_notes_37 (lv_at hl 0 rfl) ?_
      refine lv_iconst (v := 1) hx hb dX1_notes_39 (by decide) ?_
      refine lv_iload_n hx hb dX1_notes_40 rfl (lv_at hl 2 rfl) ?_
      obtain ⟨M17, e18, hF⟩ := ob_s hF
      refine m_iaW X hp e18 dX1_notes_41 (fun H locs hp => ?_)
      refine lv_aload hx hb dX1_notes_42 (lv_at hl 0 rfl) ?_
      refine lv_iconst (v := 2) hx hb dX1_notes_44 (by decide) ?_
      refine lv_iload_n hx hb dX1_notes_45 rfl (lv_at hl 3 rfl) ?_
      obtain ⟨M19, e20, hF⟩ := ob_s hF
      refine m_iaW X hp e20 dX1_notes_46 (fun H locs hp => ?_)
      refine lv_aload hx hb dX1_notes_47 (lv_at hl 0 rfl) ?_
      refine lv_iconst (v := 3) hx hb dX1_notes_49 (by decide) ?_
      refine lv_iload_n hx hb dX1_notes_50 rfl (lv_at hl 4 rfl) ?_
      obtain ⟨M21, e22, hF⟩ := ob_s hF
      refine m_iaW X hp e22 dX1_notes_51 (fun H locs hp => ?_)
      refine lv_aload_n hx hb dX1_notes_52 rfl (lv_at hl 1 rfl) ?_
      refine lv_dup hx hb dX1_notes_53 rfl ?_
      obtain ⟨v23, e24, hF⟩ := ob_s hF
      refine m_getI X hp e24 kX1 (Nat.le_of_ble_eq_true rfl) q404 dX1_notes_54 ?_
      refine lv_iconst (v := 1) hx hb dX1_notes_57 (by decide) ?_
      refine lv_iadd hx hb dX1_notes_58 ?_
      obtain ⟨M25, e26, hF⟩ := ob_s hF
      refine m_putW X hp e26 kX1 (Nat.le_of_ble_eq_true rfl) q404 rfl rfl rfl dX1_notes_59 (fun H locs hp => ?_)
      cases hF
      exact m_vret X hp dX1_notes_62
    · have hF := if_p c6 hF
      cases hF
      exact m_vret X hp dX1_notes_17
end
