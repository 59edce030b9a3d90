/-! String constants by their numbers: 0 .. 28; V (2 + i) the text, V (40 + i) its bytes -/
set_option maxRecDepth 100000
def strK : List Nat := [60, 66, 68, 70, 72, 74, 76, 78, 80, 82, 84, 86, 88, 90, 92, 94, 96, 101, 103, 105, 107, 109, 111, 113, 115, 117, 119, 130, 132]
def strX : List String := ["haste", "turns", "signs", "x", "y", "facing", "snow", "inside", "watch", "minute", "when", "or", "and", "not", "slips", "sees", "pays", "bare", "stone", "sign", "to", "walker", "ahead", "wait", "left", "right", "back", "from", "blind"]
def strN : List Nat := [5, 5, 5, 1, 1, 6, 4, 6, 5, 6, 4, 2, 3, 3, 5, 4, 4, 4, 5, 4, 2, 6, 5, 4, 4, 5, 4, 4, 5]
def strB : List (List Int32) := [[104, 97, 115, 116, 101], [116, 117, 114, 110, 115], [115, 105, 103, 110, 115], [120], [121], [102, 97, 99, 105, 110, 103], [115, 110, 111, 119], [105, 110, 115, 105, 100, 101], [119, 97, 116, 99, 104], [109, 105, 110, 117, 116, 101], [119, 104, 101, 110], [111, 114], [97, 110, 100], [110, 111, 116], [115, 108, 105, 112, 115], [115, 101, 101, 115], [112, 97, 121, 115], [98, 97, 114, 101], [115, 116, 111, 110, 101], [115, 105, 103, 110], [116, 111], [119, 97, 108, 107, 101, 114], [97, 104, 101, 97, 100], [119, 97, 105, 116], [108, 101, 102, 116], [114, 105, 103, 104, 116], [98, 97, 99, 107], [102, 114, 111, 109], [98, 108, 105, 110, 100]]
section
variable {l : Launch} {D : va_G} {n0 : Nat} {P : mP} {S : mSh} {M : mMm} {n : Nat} {p : Program} {e : Env} {s : State} {m : MethodId} {args : Array Value} {below : List Frame} {meth : Method} {c : Code}
abbrev Rm_J7_checkIndex : Room := { frames := 0, cells := 0, slots := 0, locals := 0 }
def fb_J7_checkIndex_9 (x0 : Int32) (x1 : Int32) : Option Int32 := none
theorem b_J7_checkIndex_9 {r : Int32} (X : mCx D n0 P p m c cJ7_checkIndex 3 s args yJ7_checkIndex.cls meth (some .int)) : ∀ (x0 : Int32) (x1 : Int32) (H : Heap) (locs : List Loc) (ls : Array Slot), mHp D n0 S M n s H locs → lv_has ls 3 [(0, .int x0), (1, .int x1), (2, .null)] → fb_J7_checkIndex_9 x0 x1 = some r → W p l e Rm_J7_checkIndex s m args below meth c H locs 0 0 (MQ below (mQ D n0 (some (.int r)) S M n) args s 0 0 (mA n0)) (F0 m 9 ls []) := by
  have hx := X.1.1
  have hb := X.1.2.1
  have hown := X.1.2.2.2.1
  have hts := X.1.2.2.2.2
  intro x0 x1 H locs ls hp hl hF
  unfold fb_J7_checkIndex_9 at hF
  cases hF
def f_J7_checkIndex (x0 : Int32) (x1 : Int32) : Option Int32 := (if x0 < 0 then (fb_J7_checkIndex_9 x0 x1) else (if x0 < x1 then some x0 else (fb_J7_checkIndex_9 x0 x1)))
theorem w_J7_checkIndex {x0 : Int32} {x1 : Int32} {r : Int32} (hF : f_J7_checkIndex x0 x1 = some r) : mCt l D n0 P yJ7_checkIndex cJ7_checkIndex 3 (some .int) 0 0 0 0 [.int x0, .int x1, .null] S M n (some (.int r)) S M n := by
  refine m_ofW (by decide) (Nat.le_of_ble_eq_true rfl) (fun p e s m below meth c X hnm hp ls hl => ?_)
  have hx := X.1.1
  have hb := X.1.2.1
  have hown := X.1.2.2.2.1
  have hts := X.1.2.2.2.2
  have hl : lv_has ls 3 [(0, .int x0), (1, .int x1), (2, .null)] := hl
  unfold f_J7_checkIndex at hF
  refine lv_iload_n hx hb dJ7_checkIndex_0 rfl (lv_at hl 0 rfl) ?_
  refine lv_if_lt (tgt := 9) hx hb dJ7_checkIndex_1 (by decide) (fun c1 => ?_) (fun c1 => ?_)
  · have hF := if_p c1 hF
    exact b_J7_checkIndex_9 X _ _ _ _ _ hp (lv_sub hl [0, 1, 2] rfl) hF
  · have hF := if_n c1 hF
    refine lv_iload_n hx hb dJ7_checkIndex_4 rfl (lv_at hl 0 rfl) ?_
    refine lv_iload_n hx hb dJ7_checkIndex_5 rfl (lv_at hl 1 rfl) ?_
    refine lv_icmp_lt (tgt := 16) hx hb dJ7_checkIndex_6 (by decide) (fun c2 => ?_) (fun c2 => ?_)
    · have hF := if_p c2 hF
      refine lv_iload_n hx hb dJ7_checkIndex_16 rfl (lv_at hl 0 rfl) ?_
      cases hF
      exact m_iret X hp dJ7_checkIndex_17
    · have hF := if_n c2 hF
      exact b_J7_checkIndex_9 X _ _ _ _ _ hp (lv_sub hl [0, 1, 2] rfl) hF
end
section
variable {l : Launch} {D : va_G} {n0 : Nat} {P : mP} {S : mSh} {M : mMm} {n : Nat} {p : Program} {e : Env} {s : State} {m : MethodId} {args : Array Value} {below : List Frame} {meth : Method} {c : Code}
abbrev Rm_J7R : Room := { frames := 0, cells := 0, slots := 0, locals := 0 }
def fb_J7R_9 (x0 : Int32) (x1 : Int32) (x2 : Nat) : Option Int32 := none
theorem b_J7R_9 {r : Int32} (X : mCx D n0 P p m c cJ7_checkIndex 3 s args yJ7_checkIndex.cls meth (some .int)) : ∀ (x0 : Int32) (x1 : Int32) (x2 : Nat) (H : Heap) (locs : List Loc) (ls : Array Slot), mHp D n0 S M n s H locs → lv_has ls 3 [(0, .int x0), (1, .int x1), (2, .ref x2)] → fb_J7R_9 x0 x1 x2 = some r → W p l e Rm_J7R s m args below meth c H locs 0 0 (MQ below (mQ D n0 (some (.int r)) S M n) args s 0 0 (mA n0)) (F0 m 9 ls []) := by
  have hx := X.1.1
  have hb := X.1.2.1
  have hown := X.1.2.2.2.1
  have hts := X.1.2.2.2.2
  intro x0 x1 x2 H locs ls hp hl hF
  unfold fb_J7R_9 at hF
  cases hF
def f_J7R (x0 : Int32) (x1 : Int32) (x2 : Nat) : Option Int32 := (if x0 < 0 then (fb_J7R_9 x0 x1 x2) else (if x0 < x1 then some x0 else (fb_J7R_9 x0 x1 x2)))
theorem w_J7R {x0 : Int32} {x1 : Int32} {x2 : Nat} {r : Int32} (hF : f_J7R x0 x1 x2 = some r) : mCt l D n0 P yJ7_checkIndex cJ7_checkIndex 3 (some .int) 0 0 0 0 [.int x0, .int x1, .ref x2] S M n (some (.int r)) S M n := by
  refine m_ofW (by decide) (Nat.le_of_ble_eq_true rfl) (fun p e s m below meth c X hnm hp ls hl => ?_)
  have hx := X.1.1
  have hb := X.1.2.1
  have hown := X.1.2.2.2.1
  have hts := X.1.2.2.2.2
  have hl : lv_has ls 3 [(0, .int x0), (1, .int x1), (2, .ref x2)] := hl
  unfold f_J7R at hF
  refine lv_iload_n hx hb dJ7_checkIndex_0 rfl (lv_at hl 0 rfl) ?_
  refine lv_if_lt (tgt := 9) hx hb dJ7_checkIndex_1 (by decide) (fun c1 => ?_) (fun c1 => ?_)
  · have hF := if_p c1 hF
    exact b_J7R_9 X _ _ _ _ _ _ hp (lv_sub hl [0, 1, 2] rfl) hF
  · have hF := if_n c1 hF
    refine lv_iload_n hx hb dJ7_checkIndex_4 rfl (lv_at hl 0 rfl) ?_
    refine lv_iload_n hx hb dJ7_checkIndex_5 rfl (lv_at hl 1 rfl) ?_
    refine lv_icmp_lt (tgt := 16) hx hb dJ7_checkIndex_6 (by decide) (fun c2 => ?_) (fun c2 => ?_)
    · have hF := if_p c2 hF
      refine lv_iload_n hx hb dJ7_checkIndex_16 rfl (lv_at hl 0 rfl) ?_
      cases hF
      exact m_iret X hp dJ7_checkIndex_17
    · have hF := if_n c2 hF
      exact b_J7R_9 X _ _ _ _ _ _ hp (lv_sub hl [0, 1, 2] rfl) hF
end
def sLen (t : Nat) : Option Int32 := if t < 29 then some (nI (strN.getD t 0)) else none
def sAt (t : Nat) (k : Int32) : Option Int32 := if t < 29 ∧ ¬ (k < 0 ∨ strN.getD t 0 ≤ k.toNatClampNeg) then some ((strB.getD t []).getD k.toNatClampNeg 0) else none
/-- what a start says of the strings -/
def mStrs (V : Nat → Nat) (n0 : Nat) (U : State) (H : Heap) : Prop :=
  va_Z "java/lang/String" "COMPACT_STRINGS" "Z" (.int 1) (mA n0) U H ∧ va_Zq "jdk/internal/util/Preconditions" "SIOOBE_FORMATTER" "Ljava/util/function/BiFunction;" (mA n0) U H ∧
  (∀ i : Nat, i < 29 → va_O "java/lang/String" (V (2 + i)) (mA n0) U H ∧ va_OF "java/lang/String" "coder" "B" (.int 0) (V (2 + i)) (mA n0) U H ∧ va_OF "java/lang/String" "value" "[B" (.ref (V (40 + i))) (V (2 + i)) (mA n0) U H ∧ va_T .byte (V (40 + i)) (strN.getD i 0) (fun j => .int ((strB.getD i []).getD j 0)) (mA n0) U H) ∧
  ∀ i : Nat, i < 29 → vk_R "WindingSquare$Reader" (strK.getD i 0) (strX.getD i "") (V (2 + i)) U
def mVs (V : Nat → Nat) (n0 : Nat) (P : mP) : Prop := ∀ (U : State) (H : Heap), P U H → mStrs V n0 U H
section MSTR
variable {p : Program} {l : Launch} {e : Env} {R : Room} {s : State} {m : MethodId} {args : Array Value} {below : List Frame} {meth : Method} {c : Code} {H : Heap} {locs : List Loc} {cells slots : Nat} {Q : State → Prop}
variable {cc : ByteArray} {nL pc : Nat} {ls : Array Slot} {rest : List Value} {D : va_G} {n0 : Nat} {P : mP} {S : mSh} {M : mMm} {n : Nat} {own : String} {ret : Option FieldType} {V : Nat → Nat}
theorem mCx.str (X : mCx D n0 P p m c cc nL s args own meth ret) (hV : mVs V n0 P) : mStrs V n0 s s.heap := hV _ _ X.2.1.2.2.2.1
theorem m_nret {r : Int32} {ty : FieldType} (X : mCx D n0 P p m c cc nL s args own meth (some ty)) (hp : mHp D n0 S M n s H locs) (hn : narrow ty (.int r) = .int r) (hdg : decode cc pc = .ok (.ireturn, 1)) :
    W p l e R s m args below meth c H locs cells slots (MQ below (mQ D n0 (some (.int r)) S M n) args s cells slots (mA n0)) (F0 m pc ls [.int r]) :=
  W.zret X.1.1 X.1.2.1 X.2.2.1 hn (hp.post _ _) hp.2.2.2 hdg X.2.2.2
/-- a call of a String's own method -/
theorem m_callStr {y : MethodName} {bytes : ByteArray} {maxL index fr lo b : Nat} {ry : Option FieldType} {As : List Value} {v : Option Value} {st : List Value} (X : mCx D n0 P p m c cc nL s args own meth ret) (hp : mHp D n0 S M n s H locs) (hC : mCt l D n0 P y bytes maxL ry fr lo 0 0 (.ref b :: As) S M n v S M n)
    (q1 : Cond.methodLink own index y ∈ lw_all) (q2 : Cond.instanceMethod y ∈ lw_all) (q3 : Cond.selects y.cls y y ∈ lw_all) (q4 : Cond.initialized y.cls ∈ lw_all) (q5 : Cond.code y bytes maxL ry ∈ lw_all) (k : Nat) (hk : As.length = k) (hd : mDs y k) (hR : fr + 1 ≤ R.frames ∧ 8 + (maxL + 11) + lo ≤ R.locals)
    (hO : va_O y.cls b (mA n0) s s.heap) (hsz : ls.size = nL) (hst : st = As.reverse ++ .ref b :: rest) (hroom : (rest.map fun v => v.category).sum ≤ 8) (hdg : decode cc pc = .ok (.invokevirtual index, 3)) (hf : cells + 0 ≤ R.cells ∧ slots + 0 ≤ R.slots)
    (kk : ∀ (H1 : Heap) (locs1 : List Loc), mHp D n0 S M n s H1 locs1 → W p l e R s m args below meth c H1 locs1 cells slots Q (F0 m (pc + 3) ls (v.toList ++ rest))) : W p l e R s m args below meth c H locs cells slots Q (F0 m pc ls st) := by
  subst hst
  obtain ⟨cell, g1, g2, g3, -⟩ := hO.kept hp.2.2.1
  exact m_back hp (va_runV (As := As) (rest := rest) X.1 hC (cwV k X.1.2.2.2.2 (lw_V q1 q2 q3 q4 q5) rfl rfl rfl ⟨rfl, hd⟩ hR) ⟨mPc.blind, ⟨cell, g1, g2, g3⟩, m_pre X hp (.ref b :: As)⟩ rfl hk hsz rfl (lv_room hroom) hdg hf) kk
theorem w_coder {i : Nat} (hV : mVs V n0 P) (hi : i < 29) : mCt l D n0 P yJ9_coder cJ9_coder 1 (some .byte) 0 0 0 0 [.ref (V (2 + i))] S M n (some (.int 0)) S M n := by
  refine m_ofF (by decide +kernel) (Nat.le_of_ble_eq_true rfl) (fun p e s m below meth c X hnm hp ls hl => ?_)
  have hx := X.1.1
  have hb := X.1.2.1
  have hl : lv_has ls 1 [(0, .ref (V (2 + i)))] := hl
  obtain ⟨hc1, -, hs, -⟩ := X.str hV
  refine m_gets X hp hc1 q655 dJ9_coder_0 ?_
  refine lv_if_eq (tgt := 13) hx hb dJ9_coder_3 (by decide) (fun h => absurd h (by decide)) (fun _ => ?_)
  refine lv_aload_n hx hb dJ9_coder_6 rfl (lv_at hl 0 rfl) ?_
  refine vk_getf hx hb (hs i hi).2.1 hp.2 X.1.2.2.2.1 (X.1.2.2.2.2 _ q2084) (fun _ h => h) dJ9_coder_7 ?_
  refine lv_goto (tgt := 14) hx hb dJ9_coder_10 (by decide) ?_
  exact m_nret X hp rfl dJ9_coder_14
theorem w_latin {i : Nat} (hV : mVs V n0 P) (hi : i < 29) : mCt l D n0 P yJ9_isLatin1 cJ9_isLatin1 1 (some .boolean) 0 0 0 0 [.ref (V (2 + i))] S M n (some (.int 1)) S M n := by
  refine m_ofF (by decide +kernel) (Nat.le_of_ble_eq_true rfl) (fun p e s m below meth c X hnm hp ls hl => ?_)
  have hx := X.1.1
  have hb := X.1.2.1
  have hl : lv_has ls 1 [(0, .ref (V (2 + i)))] := hl
  obtain ⟨hc1, -, hs, -⟩ := X.str hV
  refine m_gets X hp hc1 q655 dJ9_isLatin1_0 ?_
  refine lv_if_eq (tgt := 17) hx hb dJ9_isLatin1_3 (by decide) (fun h => absurd h (by decide)) (fun _ => ?_)
  refine lv_aload_n hx hb dJ9_isLatin1_6 rfl (lv_at hl 0 rfl) ?_
  refine vk_getf hx hb (hs i hi).2.1 hp.2 X.1.2.2.2.1 (X.1.2.2.2.2 _ q2084) (fun _ h => h) dJ9_isLatin1_7 ?_
  refine lv_if_ne (tgt := 17) hx hb dJ9_isLatin1_10 (by decide) (fun h => absurd rfl h) (fun _ => ?_)
  refine lv_iconst (v := 1) hx hb dJ9_isLatin1_13 (by decide) ?_
  refine lv_goto (tgt := 18) hx hb dJ9_isLatin1_14 (by decide) ?_
  exact m_nret X hp rfl dJ9_isLatin1_18
theorem strN_le : ∀ i, i < 29 → strN.getD i 0 < 2 ^ 31 := by decide
theorem w_length {i : Nat} (hV : mVs V n0 P) (hi : i < 29) : mCt l D n0 P yJ9_length cJ9_length 1 (some .int) 1 20 0 0 [.ref (V (2 + i))] S M n (some (.int (nI (strN.getD i 0)))) S M n := by
  refine m_ofF (by decide +kernel) (Nat.le_of_ble_eq_true rfl) (fun p e s m below meth c X hnm hp ls hl => ?_)
  have hx := X.1.1
  have hb := X.1.2.1
  have hl : lv_has ls 1 [(0, .ref (V (2 + i)))] := hl
  obtain ⟨-, -, hs, -⟩ := X.str hV
  refine lv_aload_n hx hb dJ9_length_0 rfl (lv_at hl 0 rfl) ?_
  refine vk_getf hx hb (hs i hi).2.2.1 hp.2 X.1.2.2.2.1 (X.1.2.2.2.2 _ q2083) (fun _ h => h) dJ9_length_1 ?_
  refine va_tlen hx hb (hs i hi).2.2.2 hp.2 rfl dJ9_length_4 ?_
  refine lv_aload_n hx hb dJ9_length_5 rfl (lv_at hl 0 rfl) ?_
  refine m_callStr (As := []) (rest := [.int (Int32.ofNat (strN.getD i 0))]) X hp (w_coder hV hi) q651 q652 q653 q149 q654 0 rfl ds_J9_coder ⟨Nat.le_of_ble_eq_true rfl, Nat.le_of_ble_eq_true rfl⟩ (hs i hi).1 hl.1 rfl (Nat.le_of_ble_eq_true rfl) dJ9_length_6 ⟨Nat.le_refl 0, Nat.le_refl 0⟩ (fun H locs hp => ?_)
  refine lv_ishr hx hb dJ9_length_9 ?_
  refine lv_topi (fun y ey => ?_)
  have e : y = nI (strN.getD i 0) := by rw [ey]; exact sc_shr0 (strN_le i hi)
  rw [e]
  exact m_iret X hp dJ9_length_10
theorem w_check {k x : Int32} (hV : mVs V n0 P) (hk : ¬ k < 0 ∧ k < x) : mCt l D n0 P yJ9_checkIndex cJ9_checkIndex 2 none 1 40 0 0 [.int k, .int x] S M n none S M n := by
  refine m_ofF (by decide +kernel) (Nat.le_of_ble_eq_true rfl) (fun p e s m below meth c X hnm hp ls hl => ?_)
  have hx := X.1.1
  have hb := X.1.2.1
  have hl : lv_has ls 2 [(0, .int k), (1, .int x)] := hl
  obtain ⟨-, hz, -, -⟩ := X.str hV
  refine lv_iload_n hx hb dJ9_checkIndex_0 rfl (lv_at hl 0 rfl) ?_
  refine lv_iload_n hx hb dJ9_checkIndex_1 rfl (lv_at hl 1 rfl) ?_
  have eN : f_J7_checkIndex k x = some k := by unfold f_J7_checkIndex; rw [if_neg hk.1, if_pos hk.2]
  have eR : ∀ q : Nat, f_J7R k x q = some k := fun q => by unfold f_J7R; rw [if_neg hk.1, if_pos hk.2]
  rcases hz with hz | ⟨q, hz⟩
  · refine m_gets X hp hz q671 dJ9_checkIndex_2 ?_
    refine m_callS (As := [.int k, .int x, .null]) (rest := []) X hp (w_J7_checkIndex eN) q673 q674 q146 q675 3 rfl ds_J7_checkIndex ⟨Nat.le_of_ble_eq_true rfl, Nat.le_of_ble_eq_true rfl⟩ hl.1 rfl (Nat.le_of_ble_eq_true rfl) dJ9_checkIndex_5 ⟨Nat.le_refl 0, Nat.le_refl 0⟩ (fun H locs hp => ?_)
    refine lv_pop hx hb dJ9_checkIndex_8 rfl ?_
    exact m_vret X hp dJ9_checkIndex_9
  · refine m_gets X hp hz q671 dJ9_checkIndex_2 ?_
    refine m_callS (As := [.int k, .int x, .ref q]) (rest := []) X hp (w_J7R (eR q)) q673 q674 q146 q675 3 rfl ds_J7_checkIndex ⟨Nat.le_of_ble_eq_true rfl, Nat.le_of_ble_eq_true rfl⟩ hl.1 rfl (Nat.le_of_ble_eq_true rfl) dJ9_checkIndex_5 ⟨Nat.le_refl 0, Nat.le_refl 0⟩ (fun H locs hp => ?_)
    refine lv_pop hx hb dJ9_checkIndex_8 rfl ?_
    exact m_vret X hp dJ9_checkIndex_9
theorem str_byte : ∀ i, i < 29 → ∀ j, j < strN.getD i 0 → (((strB.getD i []).getD j 0 &&& 255).toUInt32 % 65536).toInt32 = (strB.getD i []).getD j 0 ∧ narrow .char (.int ((strB.getD i []).getD j 0)) = .int ((strB.getD i []).getD j 0) := by decide +kernel
theorem w_latCharAt {i : Nat} {k : Int32} (hV : mVs V n0 P) (hi : i < 29) (hk : vp_in k (strN.getD i 0)) : mCt l D n0 P yJ10_charAt cJ10_charAt 2 (some .char) 2 80 0 0 [.ref (V (40 + i)), .int k] S M n (some (.int ((strB.getD i []).getD k.toNatClampNeg 0))) S M n := by
  refine m_ofF (by decide +kernel) (Nat.le_of_ble_eq_true rfl) (fun p e s m below meth c X hnm hp ls hl => ?_)
  have hx := X.1.1
  have hb := X.1.2.1
  have hl : lv_has ls 2 [(0, .ref (V (40 + i))), (1, .int k)] := hl
  obtain ⟨-, -, hs, -⟩ := X.str hV
  have hlt : k.toNatClampNeg < strN.getD i 0 := Nat.not_le.mp fun q => hk (Or.inr q)
  have h0 : ¬ k < 0 := fun q => hk (Or.inl q)
  have hkx : k < Int32.ofNat (strN.getD i 0) := by
    obtain ⟨j, hj, rfl⟩ := vp_in_of hk (strN_le i hi)
    exact nI_lt hj (strN_le i hi)
  refine lv_iload_n hx hb dJ10_charAt_0 rfl (lv_at hl 1 rfl) ?_
  refine lv_aload_n hx hb dJ10_charAt_1 rfl (lv_at hl 0 rfl) ?_
  refine va_tlen hx hb (hs i hi).2.2.2 hp.2 rfl dJ10_charAt_2 ?_
  refine m_callS (As := [.int k, .int (Int32.ofNat (strN.getD i 0))]) (rest := []) X hp (w_check hV ⟨h0, hkx⟩) q668 q669 q149 q670 2 rfl ds_J9_checkIndex ⟨Nat.le_of_ble_eq_true rfl, Nat.le_of_ble_eq_true rfl⟩ hl.1 rfl (Nat.le_of_ble_eq_true rfl) dJ10_charAt_3 ⟨Nat.le_refl 0, Nat.le_refl 0⟩ (fun H locs hp => ?_)
  refine lv_aload_n hx hb dJ10_charAt_6 rfl (lv_at hl 0 rfl) ?_
  refine lv_iload_n hx hb dJ10_charAt_7 rfl (lv_at hl 1 rfl) ?_
  refine va_tb hx hb (hs i hi).2.2.2 hp.2 hk rfl dJ10_charAt_8 ?_
  refine lv_sipush (v := 255) hx hb dJ10_charAt_9 (by decide) ?_
  refine lv_iand hx hb dJ10_charAt_12 ?_
  refine lv_i2c hx hb dJ10_charAt_13 (str_byte i hi _ hlt).1 ?_
  exact m_nret X hp (str_byte i hi _ hlt).2 dJ10_charAt_14
theorem w_charAt {i : Nat} {k : Int32} (hV : mVs V n0 P) (hi : i < 29) (hk : vp_in k (strN.getD i 0)) : mCt l D n0 P yJ9_charAt cJ9_charAt 2 (some .char) 3 120 0 0 [.ref (V (2 + i)), .int k] S M n (some (.int ((strB.getD i []).getD k.toNatClampNeg 0))) S M n := by
  refine m_ofF (by decide +kernel) (Nat.le_of_ble_eq_true rfl) (fun p e s m below meth c X hnm hp ls hl => ?_)
  have hx := X.1.1
  have hb := X.1.2.1
  have hl : lv_has ls 2 [(0, .ref (V (2 + i))), (1, .int k)] := hl
  obtain ⟨-, -, hs, -⟩ := X.str hV
  have hlt : k.toNatClampNeg < strN.getD i 0 := Nat.not_le.mp fun q => hk (Or.inr q)
  refine lv_aload_n hx hb dJ9_charAt_0 rfl (lv_at hl 0 rfl) ?_
  refine m_callStr (As := []) (rest := []) X hp (w_latin hV hi) q661 q662 q663 q149 q664 0 rfl ds_J9_isLatin1 ⟨Nat.le_of_ble_eq_true rfl, Nat.le_of_ble_eq_true rfl⟩ (hs i hi).1 hl.1 rfl (Nat.le_of_ble_eq_true rfl) dJ9_charAt_1 ⟨Nat.le_refl 0, Nat.le_refl 0⟩ (fun H locs hp => ?_)
  refine lv_if_eq (tgt := 16) hx hb dJ9_charAt_4 (by decide) (fun h => absurd h (by decide)) (fun _ => ?_)
  refine lv_aload_n hx hb dJ9_charAt_7 rfl (lv_at hl 0 rfl) ?_
  refine vk_getf hx hb (hs i hi).2.2.1 hp.2 X.1.2.2.2.1 (X.1.2.2.2.2 _ q2083) (fun _ h => h) dJ9_charAt_8 ?_
  refine lv_iload_n hx hb dJ9_charAt_11 rfl (lv_at hl 1 rfl) ?_
  refine m_callS (As := [.ref (V (40 + i)), .int k]) (rest := []) X hp (w_latCharAt hV hi hk) q665 q666 q150 q667 2 rfl ds_J10_charAt ⟨Nat.le_of_ble_eq_true rfl, Nat.le_of_ble_eq_true rfl⟩ hl.1 rfl (Nat.le_of_ble_eq_true rfl) dJ9_charAt_12 ⟨Nat.le_refl 0, Nat.le_refl 0⟩ (fun H locs hp => ?_)
  exact m_nret X hp (str_byte i hi _ hlt).2 dJ9_charAt_15
/-! the rows -/
theorem sLen_s {t : Nat} {x : Int32} (h : sLen t = some x) : t < 29 ∧ nI (strN.getD t 0) = x := by
  unfold sLen at h
  split at h
  · next hc => cases h; exact ⟨hc, rfl⟩
  · cases h
theorem sAt_s {t : Nat} {k x : Int32} (h : sAt t k = some x) : t < 29 ∧ vp_in k (strN.getD t 0) ∧ (strB.getD t []).getD k.toNatClampNeg 0 = x := by
  unfold sAt at h
  split at h
  · next hc => cases h; exact ⟨hc.1, hc.2, rfl⟩
  · cases h
theorem m_sLen {t index : Nat} {x : Int32} (X : mCx D n0 P p m c cc nL s args own meth ret) (hp : mHp D n0 S M n s H locs) (hV : mVs V n0 P) (h : sLen t = some x) (q1 : Cond.methodLink own index yJ9_length ∈ lw_all) (hR : 1 + 1 ≤ R.frames ∧ 8 + (1 + 11) + 20 ≤ R.locals) (hsz : ls.size = nL) (hroom : (rest.map fun v => v.category).sum ≤ 8) (hdg : decode cc pc = .ok (.invokevirtual index, 3)) (hf : cells + 0 ≤ R.cells ∧ slots + 0 ≤ R.slots)
    (kk : ∀ (H1 : Heap) (locs1 : List Loc), mHp D n0 S M n s H1 locs1 → W p l e R s m args below meth c H1 locs1 cells slots Q (F0 m (pc + 3) ls (.int x :: rest))) : W p l e R s m args below meth c H locs cells slots Q (F0 m pc ls (.ref (V (2 + t)) :: rest)) := by
  obtain ⟨ht, rfl⟩ := sLen_s h
  exact m_callStr (As := []) X hp (w_length hV ht) q1 q648 q649 q149 q650 0 rfl ds_J9_length hR ((X.str hV).2.2.1 t ht).1 hsz rfl hroom hdg hf kk
theorem m_sAt {t index : Nat} {k x : Int32} (X : mCx D n0 P p m c cc nL s args own meth ret) (hp : mHp D n0 S M n s H locs) (hV : mVs V n0 P) (h : sAt t k = some x) (q1 : Cond.methodLink own index yJ9_charAt ∈ lw_all) (hR : 3 + 1 ≤ R.frames ∧ 8 + (2 + 11) + 120 ≤ R.locals) (hsz : ls.size = nL) (hroom : (rest.map fun v => v.category).sum ≤ 8) (hdg : decode cc pc = .ok (.invokevirtual index, 3)) (hf : cells + 0 ≤ R.cells ∧ slots + 0 ≤ R.slots)
    (kk : ∀ (H1 : Heap) (locs1 : List Loc), mHp D n0 S M n s H1 locs1 → W p l e R s m args below meth c H1 locs1 cells slots Q (F0 m (pc + 3) ls (.int x :: rest))) : W p l e R s m args below meth c H locs cells slots Q (F0 m pc ls (.int k :: .ref (V (2 + t)) :: rest)) := by
  obtain ⟨ht, hk, rfl⟩ := sAt_s h
  exact m_callStr (As := [.int k]) X hp (w_charAt hV ht hk) q1 q658 q659 q149 q660 1 rfl ds_J9_charAt hR ((X.str hV).2.2.1 t ht).1 hsz rfl hroom hdg hf kk
theorem m_ldcS (t : Nat) {index : Nat} (X : mCx D n0 P p m c cc nL s args "WindingSquare$Reader" meth ret) (hV : mVs V n0 P) (ht : t < 29) (hk : strK.getD t 0 = index) (hdg : decode cc pc = .ok (.ldc index, 2))
    (kk : W p l e R s m args below meth c H locs cells slots Q (F0 m (pc + 2) ls (.ref (V (2 + t)) :: rest))) : W p l e R s m args below meth c H locs cells slots Q (F0 m pc ls rest) :=
  va_ldcS X.1.1 X.1.2.1 X.1.2.2.2.1 (hk ▸ (X.str hV).2.2.2 t ht) hdg kk
end MSTR
