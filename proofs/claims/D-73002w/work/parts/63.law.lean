set_option maxRecDepth 100000
section
variable {l : Launch} {D : va_G} {n0 : Nat} {P : mP} {V : Nat → Nat} {b L : Nat} {xs : Nat → Int32} {p : Program} {e : Env} {s : State} {m : MethodId} {args : Array Value} {below : List Frame} {meth : Method} {c : Code}
abbrev Rm_L_law (mc ms : Nat) : Room := { frames := 4001, cells := mc, slots := ms, locals := 60024 }
def fb_L_law_1309 (V : Nat → Nat) (xs : Nat → Int32) (L : Nat) (k18 : mSh → mMm → Nat → Nat → Nat → Nat → Int32 → Option (Int32 × mSh × mMm × Nat × Nat)) (S : mSh) (M : mMm) (n z : Nat) (x1 : Nat) (x2 : Nat) (x3 : Int32) : Option (Int32 × mSh × mMm × Nat × Nat) := nm (x3 + (6 : Int32)) fun v54 => (k18 S M n z x1 x2 v54)
theorem mn_L_law_1309 {S' : mSh} {M' : mMm} {n' z' : Nat} (k18 : mSh → mMm → Nat → Nat → Nat → Nat → Int32 → Option (Int32 × mSh × mMm × Nat × Nat)) (hmk18 : ∀ {S : mSh} {M : mMm} {n z : Nat} {x1 : Nat} {x2 : Nat} {x3 : Int32}, k18 S M n z x1 x2 x3 = some (1, S', M', n', z') → n ≤ n' ∧ z ≤ z') : ∀ {S : mSh} {M : mMm} {n z : Nat} {x1 : Nat} {x2 : Nat} {x3 : Int32}, fb_L_law_1309 V xs L k18 S M n z x1 x2 x3 = some (1, S', M', n', z') → n ≤ n' ∧ z ≤ z' := by
  intro S M n z x1 x2 x3 hF
  unfold fb_L_law_1309 at hF
  obtain ⟨v54, ev55⟩ : ∃ y : Int32, y = x3 + (6 : Int32) := ⟨_, rfl⟩
  have hF := nm_s hF rfl
  have h9 := hmk18 hF
  exact ⟨by omega, by omega⟩
theorem b_L_law_1309 {S' : mSh} {M' : mMm} {n' z' : Nat} (hV : mV V n0 P) (hVs : mVs V n0 P) (hs : l.stackTraces = false) (hVx : mVx n0 P) (hn0 : s.heap.size = n0) (hXs : va_X b L xs s s.heap) (hbl : b < n0) (hbd : n' - n0 ≤ 601024 ∧ z' ≤ 7293034) (X : mCx D n0 P p m c cL_law 4 s #[Value.ref b] "WindingSquareLaw" meth (some .boolean)) (k18 : mSh → mMm → Nat → Nat → Nat → Nat → Int32 → Option (Int32 × mSh × mMm × Nat × Nat)) (hmk18 : ∀ {S : mSh} {M : mMm} {n z : Nat} {x1 : Nat} {x2 : Nat} {x3 : Int32}, k18 S M n z x1 x2 x3 = some (1, S', M', n', z') → n ≤ n' ∧ z ≤ z') (hk18 : ∀ (S : mSh) (M : mMm) (n z : Nat) (x1 : Nat) (x2 : Nat) (x3 : Int32) (H : Heap) (locs : List Loc) (ls : Array Slot), n0 ≤ n → mHp D n0 S M n s H locs → lv_has ls 4 [(0, .ref b), (1, .ref x1), (2, .ref x2), (3, .int x3)] → k18 S M n z x1 x2 x3 = some (1, S', M', n', z') → W p l e room_1 s m #[Value.ref b] below meth c H locs (n - n0) (z) (lw_Z below #[Value.ref b] s) (F0 m 18 ls [])) : ∀ (S : mSh) (M : mMm) (n z : Nat) (x1 : Nat) (x2 : Nat) (x3 : Int32) (H : Heap) (locs : List Loc) (ls : Array Slot), n0 ≤ n → mHp D n0 S M n s H locs → lv_has ls 4 [(0, .ref b), (1, .ref x1), (2, .ref x2), (3, .int x3)] → fb_L_law_1309 V xs L k18 S M n z x1 x2 x3 = some (1, S', M', n', z') → W p l e room_1 s m #[Value.ref b] below meth c H locs (n - n0) (z) (lw_Z below #[Value.ref b] s) (F0 m 1309 ls []) := by
  have hx := X.1.1
  have hb := X.1.2.1
  have hown := X.1.2.2.2.1
  have hts := X.1.2.2.2.2
  intro S M n z x1 x2 x3 H locs ls hn hp hl hF
  have hm0 := mn_L_law_1309 _ hmk18 hF
  unfold fb_L_law_1309 at hF
  obtain ⟨v54, ev55⟩ : ∃ y : Int32, y = x3 + (6 : Int32) := ⟨_, rfl⟩
  have hF := nm_s hF ev55
  refine lv_iinc (v := v54) (lv' := [(3, .int v54), (0, .ref b), (1, .ref x1), (2, .ref x2)]) hx hb dL_law_1309 hl (k := 3) rfl (by rw [ev55]; rfl) (by decide) rfl (fun ls hl => ?_)
  refine lv_goto (tgt := 18) hx hb dL_law_1312 (by decide) ?_
  exact hk18 _ _ _ _ _ _ _ _ _ _ (by omega) hp (lv_sub hl [1, 2, 3, 0] rfl) hF
def fb_L_law_188 (V : Nat → Nat) (xs : Nat → Int32) (L : Nat) (k18 : mSh → mMm → Nat → Nat → Nat → Nat → Int32 → Option (Int32 × mSh × mMm × Nat × Nat)) (S : mSh) (M : mMm) (n z : Nat) (x1 : Nat) (x2 : Nat) (x3 : Int32) : Option (Int32 × mSh × mMm × Nat × Nat) := gd (¬ ((x3 + (1 : Int32)) < 0 ∨ L ≤ (x3 + (1 : Int32)).toNatClampNeg)) (gd ((S x1).1 = 1) (ob (f_X0_state S M x1 (xs (x3 + (1 : Int32)).toNatClampNeg)) fun ⟨v489, M490⟩ => gd (¬ ((x3 + (1 : Int32)) < 0 ∨ L ≤ (x3 + (1 : Int32)).toNatClampNeg)) (gd ((S x2).1 = 6) (ob (f_X5_state S M490 x2 (xs (x3 + (1 : Int32)).toNatClampNeg)) fun ⟨v494, M495⟩ => (if v489 = v494 then (fb_L_law_1309 V xs L k18 S M495 n z x1 x2 x3) else some ((0 : Int32), S, M495, n, z))))))
theorem mn_L_law_188 {S' : mSh} {M' : mMm} {n' z' : Nat} (k18 : mSh → mMm → Nat → Nat → Nat → Nat → Int32 → Option (Int32 × mSh × mMm × Nat × Nat)) (hmk18 : ∀ {S : mSh} {M : mMm} {n z : Nat} {x1 : Nat} {x2 : Nat} {x3 : Int32}, k18 S M n z x1 x2 x3 = some (1, S', M', n', z') → n ≤ n' ∧ z ≤ z') : ∀ {S : mSh} {M : mMm} {n z : Nat} {x1 : Nat} {x2 : Nat} {x3 : Int32}, fb_L_law_188 V xs L k18 S M n z x1 x2 x3 = some (1, S', M', n', z') → n ≤ n' ∧ z ≤ z' := by
  intro S M n z x1 x2 x3 hF
  unfold fb_L_law_188 at hF
  obtain ⟨g486, hF⟩ := gd_s hF
  obtain ⟨g487, hF⟩ := gd_s hF
  obtain ⟨⟨v489, M490⟩, e488, hF⟩ := ob_s hF
  obtain ⟨g491, hF⟩ := gd_s hF
  obtain ⟨g492, hF⟩ := gd_s hF
  obtain ⟨⟨v494, M495⟩, e493, hF⟩ := ob_s hF
  rcases Decidable.em (v489 = v494) with c496 | c496
  · have hF := if_p c496 hF
    have h9 := (mn_L_law_1309 (V := V) (xs := xs) (L := L) k18 hmk18) hF
    exact ⟨by omega, by omega⟩
  · have hF := if_n c496 hF
    exact absurd (lw_01 hF) (by decide)
theorem b_L_law_188 {S' : mSh} {M' : mMm} {n' z' : Nat} (hV : mV V n0 P) (hVs : mVs V n0 P) (hs : l.stackTraces = false) (hVx : mVx n0 P) (hn0 : s.heap.size = n0) (hXs : va_X b L xs s s.heap) (hbl : b < n0) (hbd : n' - n0 ≤ 601024 ∧ z' ≤ 7293034) (X : mCx D n0 P p m c cL_law 4 s #[Value.ref b] "WindingSquareLaw" meth (some .boolean)) (k18 : mSh → mMm → Nat → Nat → Nat → Nat → Int32 → Option (Int32 × mSh × mMm × Nat × Nat)) (hmk18 : ∀ {S : mSh} {M : mMm} {n z : Nat} {x1 : Nat} {x2 : Nat} {x3 : Int32}, k18 S M n z x1 x2 x3 = some (1, S', M', n', z') → n ≤ n' ∧ z ≤ z') (hk18 : ∀ (S : mSh) (M : mMm) (n z : Nat) (x1 : Nat) (x2 : Nat) (x3 : Int32) (H : Heap) (locs : List Loc) (ls : Array Slot), n0 ≤ n → mHp D n0 S M n s H locs → lv_has ls 4 [(0, .ref b), (1, .ref x1), (2, .ref x2), (3, .int x3)] → k18 S M n z x1 x2 x3 = some (1, S', M', n', z') → W p l e room_1 s m #[Value.ref b] below meth c H locs (n - n0) (z) (lw_Z below #[Value.ref b] s) (F0 m 18 ls [])) : ∀ (S : mSh) (M : mMm) (n z : Nat) (x1 : Nat) (x2 : Nat) (x3 : Int32) (H : Heap) (locs : List Loc) (ls : Array Slot), n0 ≤ n → mHp D n0 S M n s H locs → lv_has ls 4 [(0, .ref b), (1, .ref x1), (2, .ref x2), (3, .int x3)] → fb_L_law_188 V xs L k18 S M n z x1 x2 x3 = some (1, S', M', n', z') → W p l e room_1 s m #[Value.ref b] below meth c H locs (n - n0) (z) (lw_Z below #[Value.ref b] s) (F0 m 188 ls []) := by
  have hx := X.1.1
  have hb := X.1.2.1
  have hown := X.1.2.2.2.1
  have hts := X.1.2.2.2.2
  intro S M n z x1 x2 x3 H locs ls hn hp hl hF
  have hm0 := mn_L_law_188 _ hmk18 hF
  unfold fb_L_law_188 at hF
  refine lv_aload_n hx hb dL_law_188 rfl (lv_at hl 1 rfl) ?_
  refine lv_aload_n hx hb dL_law_189 rfl (lv_at hl 0 rfl) ?_
  refine lv_iload_n hx hb dL_law_190 rfl (lv_at hl 3 rfl) ?_
  refine lv_iconst (v := 1) hx hb dL_law_191 (by decide) ?_
  refine lv_iadd hx hb dL_law_192 ?_
  obtain ⟨g486, hF⟩ := gd_s hF
  refine va_sld hx hb hXs (by rw [hn0]; exact hbl) (fun h => Nat.not_le.mpr hbl h) hp.2 g486 dL_law_193 ?_
  obtain ⟨g487, hF⟩ := gd_s hF
  obtain ⟨⟨v489, M490⟩, e488, hF⟩ := ob_s hF
  refine m_callV (As := [.int (xs (x3 + (1 : Int32)).toNatClampNeg)]) (rest := []) X hp (w_X0_state e488) q1006 q1007 q1008 q132 q1009 1 rfl ds_X0_state ⟨Nat.le_of_ble_eq_true rfl, Nat.le_of_ble_eq_true rfl⟩ 1 (T := TX0) (N := 30) rfl (by decide) g487 hl.1 rfl (Nat.le_of_ble_eq_true rfl) dL_law_194 ⟨by show _ + 0 ≤ 601024; omega, by show _ + 0 ≤ 7293034; omega⟩ (fun H locs hp => ?_)
  refine lv_aload_n hx hb dL_law_197 rfl (lv_at hl 2 rfl) ?_
  refine lv_aload_n hx hb dL_law_198 rfl (lv_at hl 0 rfl) ?_
  refine lv_iload_n hx hb dL_law_199 rfl (lv_at hl 3 rfl) ?_
  refine lv_iconst (v := 1) hx hb dL_law_200 (by decide) ?_
  refine lv_iadd hx hb dL_law_201 ?_
  obtain ⟨g491, hF⟩ := gd_s hF
  refine va_sld hx hb hXs (by rw [hn0]; exact hbl) (fun h => Nat.not_le.mpr hbl h) hp.2 g491 dL_law_202 ?_
  obtain ⟨g492, hF⟩ := gd_s hF
  obtain ⟨⟨v494, M495⟩, e493, hF⟩ := ob_s hF
  refine m_callV (As := [.int (xs (x3 + (1 : Int32)).toNatClampNeg)]) (rest := [.int v489]) X hp (w_X5_state e493) q1835 q1836 q1837 q144 q1838 1 rfl ds_X5_state ⟨Nat.le_of_ble_eq_true rfl, Nat.le_of_ble_eq_true rfl⟩ 6 (T := TX5) (N := 40) rfl (by decide) g492 hl.1 rfl (Nat.le_of_ble_eq_true rfl) dL_law_203 ⟨by show _ + 0 ≤ 601024; omega, by show _ + 0 ≤ 7293034; omega⟩ (fun H locs hp => ?_)
  refine lv_icmp_eq (tgt := 1309) hx hb dL_law_206 (by decide) (fun c496 => ?_) (fun c496 => ?_)
  · have hF := if_p c496 hF
    exact b_L_law_1309 hV hVs hs hVx hn0 hXs hbl hbd X k18 hmk18 hk18 _ _ _ _ _ _ _ _ _ _ (by omega) hp (lv_sub hl [0, 1, 2, 3] rfl) hF
  · have hF := if_n c496 hF
    refine lv_iconst (v := 0) hx hb dL_law_209 (by decide) ?_
    exact absurd (lw_01 hF) (by decide)
def fb_L_law_211 (V : Nat → Nat) (xs : Nat → Int32) (L : Nat) (k18 : mSh → mMm → Nat → Nat → Nat → Nat → Int32 → Option (Int32 × mSh × mMm × Nat × Nat)) (S : mSh) (M : mMm) (n z : Nat) (x1 : Nat) (x2 : Nat) (x3 : Int32) : Option (Int32 × mSh × mMm × Nat × Nat) := gd (¬ ((x3 + (1 : Int32)) < 0 ∨ L ≤ (x3 + (1 : Int32)).toNatClampNeg)) (gd ((S x1).1 = 1) (ob (f_X0_walker S M x1 (xs (x3 + (1 : Int32)).toNatClampNeg)) fun ⟨v478, M479⟩ => gd (¬ ((x3 + (1 : Int32)) < 0 ∨ L ≤ (x3 + (1 : Int32)).toNatClampNeg)) (gd ((S x2).1 = 6) (ob (f_X5_walker S M479 x2 (xs (x3 + (1 : Int32)).toNatClampNeg)) fun ⟨v483, M484⟩ => (if v478 = v483 then (fb_L_law_1309 V xs L k18 S M484 n z x1 x2 x3) else some ((0 : Int32), S, M484, n, z))))))
theorem mn_L_law_211 {S' : mSh} {M' : mMm} {n' z' : Nat} (k18 : mSh → mMm → Nat → Nat → Nat → Nat → Int32 → Option (Int32 × mSh × mMm × Nat × Nat)) (hmk18 : ∀ {S : mSh} {M : mMm} {n z : Nat} {x1 : Nat} {x2 : Nat} {x3 : Int32}, k18 S M n z x1 x2 x3 = some (1, S', M', n', z') → n ≤ n' ∧ z ≤ z') : ∀ {S : mSh} {M : mMm} {n z : Nat} {x1 : Nat} {x2 : Nat} {x3 : Int32}, fb_L_law_211 V xs L k18 S M n z x1 x2 x3 = some (1, S', M', n', z') → n ≤ n' ∧ z ≤ z' := by
  intro S M n z x1 x2 x3 hF
  unfold fb_L_law_211 at hF
  obtain ⟨g475, hF⟩ := gd_s hF
  obtain ⟨g476, hF⟩ := gd_s hF
  obtain ⟨⟨v478, M479⟩, e477, hF⟩ := ob_s hF
  obtain ⟨g480, hF⟩ := gd_s hF
  obtain ⟨g481, hF⟩ := gd_s hF
  obtain ⟨⟨v483, M484⟩, e482, hF⟩ := ob_s hF
  rcases Decidable.em (v478 = v483) with c485 | c485
  · have hF := if_p c485 hF
    have h9 := (mn_L_law_1309 (V := V) (xs := xs) (L := L) k18 hmk18) hF
    exact ⟨by omega, by omega⟩
  · have hF := if_n c485 hF
    exact absurd (lw_01 hF) (by decide)
theorem b_L_law_211 {S' : mSh} {M' : mMm} {n' z' : Nat} (hV : mV V n0 P) (hVs : mVs V n0 P) (hs : l.stackTraces = false) (hVx : mVx n0 P) (hn0 : s.heap.size = n0) (hXs : va_X b L xs s s.heap) (hbl : b < n0) (hbd : n' - n0 ≤ 601024 ∧ z' ≤ 7293034) (X : mCx D n0 P p m c cL_law 4 s #[Value.ref b] "WindingSquareLaw" meth (some .boolean)) (k18 : mSh → mMm → Nat → Nat → Nat → Nat → Int32 → Option (Int32 × mSh × mMm × Nat × Nat)) (hmk18 : ∀ {S : mSh} {M : mMm} {n z : Nat} {x1 : Nat} {x2 : Nat} {x3 : Int32}, k18 S M n z x1 x2 x3 = some (1, S', M', n', z') → n ≤ n' ∧ z ≤ z') (hk18 : ∀ (S : mSh) (M : mMm) (n z : Nat) (x1 : Nat) (x2 : Nat) (x3 : Int32) (H : Heap) (locs : List Loc) (ls : Array Slot), n0 ≤ n → mHp D n0 S M n s H locs → lv_has ls 4 [(0, .ref b), (1, .ref x1), (2, .ref x2), (3, .int x3)] → k18 S M n z x1 x2 x3 = some (1, S', M', n', z') → W p l e room_1 s m #[Value.ref b] below meth c H locs (n - n0) (z) (lw_Z below #[Value.ref b] s) (F0 m 18 ls [])) : ∀ (S : mSh) (M : mMm) (n z : Nat) (x1 : Nat) (x2 : Nat) (x3 : Int32) (H : Heap) (locs : List Loc) (ls : Array Slot), n0 ≤ n → mHp D n0 S M n s H locs → lv_has ls 4 [(0, .ref b), (1, .ref x1), (2, .ref x2), (3, .int x3)] → fb_L_law_211 V xs L k18 S M n z x1 x2 x3 = some (1, S', M', n', z') → W p l e room_1 s m #[Value.ref b] below meth c H locs (n - n0) (z) (lw_Z below #[Value.ref b] s) (F0 m 211 ls []) := by
  have hx := X.1.1
  have hb := X.1.2.1
  have hown := X.1.2.2.2.1
  have hts := X.1.2.2.2.2
  intro S M n z x1 x2 x3 H locs ls hn hp hl hF
  have hm0 := mn_L_law_211 _ hmk18 hF
  unfold fb_L_law_211 at hF
  refine lv_aload_n hx hb dL_law_211 rfl (lv_at hl 1 rfl) ?_
  refine lv_aload_n hx hb dL_law_212 rfl (lv_at hl 0 rfl) ?_
  refine lv_iload_n hx hb dL_law_213 rfl (lv_at hl 3 rfl) ?_
  refine lv_iconst (v := 1) hx hb dL_law_214 (by decide) ?_
  refine lv_iadd hx hb dL_law_215 ?_
  obtain ⟨g475, hF⟩ := gd_s hF
  refine va_sld hx hb hXs (by rw [hn0]; exact hbl) (fun h => Nat.not_le.mpr hbl h) hp.2 g475 dL_law_216 ?_
  obtain ⟨g476, hF⟩ := gd_s hF
  obtain ⟨⟨v478, M479⟩, e477, hF⟩ := ob_s hF
  refine m_callV (As := [.int (xs (x3 + (1 : Int32)).toNatClampNeg)]) (rest := []) X hp (w_X0_walker e477) q1010 q1011 q1012 q132 q1013 1 rfl ds_X0_walker ⟨Nat.le_of_ble_eq_true rfl, Nat.le_of_ble_eq_true rfl⟩ 1 (T := TX0) (N := 30) rfl (by decide) g476 hl.1 rfl (Nat.le_of_ble_eq_true rfl) dL_law_217 ⟨by show _ + 0 ≤ 601024; omega, by show _ + 0 ≤ 7293034; omega⟩ (fun H locs hp => ?_)
  refine lv_aload_n hx hb dL_law_220 rfl (lv_at hl 2 rfl) ?_
  refine lv_aload_n hx hb dL_law_221 rfl (lv_at hl 0 rfl) ?_
  refine lv_iload_n hx hb dL_law_222 rfl (lv_at hl 3 rfl) ?_
  refine lv_iconst (v := 1) hx hb dL_law_223 (by decide) ?_
  refine lv_iadd hx hb dL_law_224 ?_
  obtain ⟨g480, hF⟩ := gd_s hF
  refine va_sld hx hb hXs (by rw [hn0]; exact hbl) (fun h => Nat.not_le.mpr hbl h) hp.2 g480 dL_law_225 ?_
  obtain ⟨g481, hF⟩ := gd_s hF
  obtain ⟨⟨v483, M484⟩, e482, hF⟩ := ob_s hF
  refine m_callV (As := [.int (xs (x3 + (1 : Int32)).toNatClampNeg)]) (rest := [.int v478]) X hp (w_X5_walker e482) q1839 q1840 q1841 q144 q1842 1 rfl ds_X5_walker ⟨Nat.le_of_ble_eq_true rfl, Nat.le_of_ble_eq_true rfl⟩ 6 (T := TX5) (N := 40) rfl (by decide) g481 hl.1 rfl (Nat.le_of_ble_eq_true rfl) dL_law_226 ⟨by show _ + 0 ≤ 601024; omega, by show _ + 0 ≤ 7293034; omega⟩ (fun H locs hp => ?_)
  refine lv_icmp_eq (tgt := 1309) hx hb dL_law_229 (by decide) (fun c485 => ?_) (fun c485 => ?_)
  · have hF := if_p c485 hF
    exact b_L_law_1309 hV hVs hs hVx hn0 hXs hbl hbd X k18 hmk18 hk18 _ _ _ _ _ _ _ _ _ _ (by omega) hp (lv_sub hl [0, 1, 2, 3] rfl) hF
  · have hF := if_n c485 hF
    refine lv_iconst (v := 0) hx hb dL_law_232 (by decide) ?_
    exact absurd (lw_01 hF) (by decide)
def fb_L_law_234 (V : Nat → Nat) (xs : Nat → Int32) (L : Nat) (k18 : mSh → mMm → Nat → Nat → Nat → Nat → Int32 → Option (Int32 × mSh × mMm × Nat × Nat)) (S : mSh) (M : mMm) (n z : Nat) (x1 : Nat) (x2 : Nat) (x3 : Int32) : Option (Int32 × mSh × mMm × Nat × Nat) := gd (¬ ((x3 + (1 : Int32)) < 0 ∨ L ≤ (x3 + (1 : Int32)).toNatClampNeg)) (gd (¬ ((x3 + (2 : Int32)) < 0 ∨ L ≤ (x3 + (2 : Int32)).toNatClampNeg)) (gd (¬ ((x3 + (3 : Int32)) < 0 ∨ L ≤ (x3 + (3 : Int32)).toNatClampNeg)) (gd ((S x1).1 = 1) (ob (f_X0_comes S M x1 (xs (x3 + (1 : Int32)).toNatClampNeg) (xs (x3 + (2 : Int32)).toNatClampNeg) (xs (x3 + (3 : Int32)).toNatClampNeg)) fun ⟨v465, M466⟩ => gd (¬ ((x3 + (1 : Int32)) < 0 ∨ L ≤ (x3 + (1 : Int32)).toNatClampNeg)) (gd (¬ ((x3 + (2 : Int32)) < 0 ∨ L ≤ (x3 + (2 : Int32)).toNatClampNeg)) (gd (¬ ((x3 + (3 : Int32)) < 0 ∨ L ≤ (x3 + (3 : Int32)).toNatClampNeg)) (gd ((S x2).1 = 6) (ob (f_X5_comes S M466 x2 (xs (x3 + (1 : Int32)).toNatClampNeg) (xs (x3 + (2 : Int32)).toNatClampNeg) (xs (x3 + (3 : Int32)).toNatClampNeg)) fun ⟨v472, M473⟩ => (if v465 = v472 then (fb_L_law_1309 V xs L k18 S M473 n z x1 x2 x3) else some ((0 : Int32), S, M473, n, z))))))))))
theorem mn_L_law_234 {S' : mSh} {M' : mMm} {n' z' : Nat} (k18 : mSh → mMm → Nat → Nat → Nat → Nat → Int32 → Option (Int32 × mSh × mMm × Nat × Nat)) (hmk18 : ∀ {S : mSh} {M : mMm} {n z : Nat} {x1 : Nat} {x2 : Nat} {x3 : Int32}, k18 S M n z x1 x2 x3 = some (1, S', M', n', z') → n ≤ n' ∧ z ≤ z') : ∀ {S : mSh} {M : mMm} {n z : Nat} {x1 : Nat} {x2 : Nat} {x3 : Int32}, fb_L_law_234 V xs L k18 S M n z x1 x2 x3 = some (1, S', M', n', z') → n ≤ n' ∧ z ≤ z' := by
  intro S M n z x1 x2 x3 hF
  unfold fb_L_law_234 at hF
  obtain ⟨g460, hF⟩ := gd_s hF
  obtain ⟨g461, hF⟩ := gd_s hF
  obtain ⟨g462, hF⟩ := gd_s hF
  obtain ⟨g463, hF⟩ := gd_s hF
  obtain ⟨⟨v465, M466⟩, e464, hF⟩ := ob_s hF
  obtain ⟨g467, hF⟩ := gd_s hF
  obtain ⟨g468, hF⟩ := gd_s hF
  obtain ⟨g469, hF⟩ := gd_s hF
  obtain ⟨g470, hF⟩ := gd_s hF
  obtain ⟨⟨v472, M473⟩, e471, hF⟩ := ob_s hF
  rcases Decidable.em (v465 = v472) with c474 | c474
  · have hF := if_p c474 hF
    have h9 := (mn_L_law_1309 (V := V) (xs := xs) (L := L) k18 hmk18) hF
    exact ⟨by omega, by omega⟩
  · have hF := if_n c474 hF
    exact absurd (lw_01 hF) (by decide)
theorem b_L_law_234 {S' : mSh} {M' : mMm} {n' z' : Nat} (hV : mV V n0 P) (hVs : mVs V n0 P) (hs : l.stackTraces = false) (hVx : mVx n0 P) (hn0 : s.heap.size = n0) (hXs : va_X b L xs s s.heap) (hbl : b < n0) (hbd : n' - n0 ≤ 601024 ∧ z' ≤ 7293034) (X : mCx D n0 P p m c cL_law 4 s #[Value.ref b] "WindingSquareLaw" meth (some .boolean)) (k18 : mSh → mMm → Nat → Nat → Nat → Nat → Int32 → Option (Int32 × mSh × mMm × Nat × Nat)) (hmk18 : ∀ {S : mSh} {M : mMm} {n z : Nat} {x1 : Nat} {x2 : Nat} {x3 : Int32}, k18 S M n z x1 x2 x3 = some (1, S', M', n', z') → n ≤ n' ∧ z ≤ z') (hk18 : ∀ (S : mSh) (M : mMm) (n z : Nat) (x1 : Nat) (x2 : Nat) (x3 : Int32) (H : Heap) (locs : List Loc) (ls : Array Slot), n0 ≤ n → mHp D n0 S M n s H locs → lv_has ls 4 [(0, .ref b), (1, .ref x1), (2, .ref x2), (3, .int x3)] → k18 S M n z x1 x2 x3 = some (1, S', M', n', z') → W p l e room_1 s m #[Value.ref b] below meth c H locs (n - n0) (z) (lw_Z below #[Value.ref b] s) (F0 m 18 ls [])) : ∀ (S : mSh) (M : mMm) (n z : Nat) (x1 : Nat) (x2 : Nat) (x3 : Int32) (H : Heap) (locs : List Loc) (ls : Array Slot), n0 ≤ n → mHp D n0 S M n s H locs → lv_has ls 4 [(0, .ref b), (1, .ref x1), (2, .ref x2), (3, .int x3)] → fb_L_law_234 V xs L k18 S M n z x1 x2 x3 = some (1, S', M', n', z') → W p l e room_1 s m #[Value.ref b] below meth c H locs (n - n0) (z) (lw_Z below #[Value.ref b] s) (F0 m 234 ls []) := by
  have hx := X.1.1
  have hb := X.1.2.1
  have hown := X.1.2.2.2.1
  have hts := X.1.2.2.2.2
  intro S M n z x1 x2 x3 H locs ls hn hp hl hF
  have hm0 := mn_L_law_234 _ hmk18 hF
  unfold fb_L_law_234 at hF
  refine lv_aload_n hx hb dL_law_234 rfl (lv_at hl 1 rfl) ?_
  refine lv_aload_n hx hb dL_law_235 rfl (lv_at hl 0 rfl) ?_
  refine lv_iload_n hx hb dL_law_236 rfl (lv_at hl 3 rfl) ?_
  refine lv_iconst (v := 1) hx hb dL_law_237 (by decide) ?_
  refine lv_iadd hx hb dL_law_238 ?_
  obtain ⟨g460, hF⟩ := gd_s hF
  refine va_sld hx hb hXs (by rw [hn0]; exact hbl) (fun h => Nat.not_le.mpr hbl h) hp.2 g460 dL_law_239 ?_
  refine lv_aload_n hx hb dL_law_240 rfl (lv_at hl 0 rfl) ?_
  refine lv_iload_n hx hb dL_law_241 rfl (lv_at hl 3 rfl) ?_
  refine lv_iconst (v := 2) hx hb dL_law_242 (by decide) ?_
  refine lv_iadd hx hb dL_law_243 ?_
  obtain ⟨g461, hF⟩ := gd_s hF
  refine va_sld hx hb hXs (by rw [hn0]; exact hbl) (fun h => Nat.not_le.mpr hbl h) hp.2 g461 dL_law_244 ?_
  refine lv_aload_n hx hb dL_law_245 rfl (lv_at hl 0 rfl) ?_
  refine lv_iload_n hx hb dL_law_246 rfl (lv_at hl 3 rfl) ?_
  refine lv_iconst (v := 3) hx hb dL_law_247 (by decide) ?_
  refine lv_iadd hx hb dL_law_248 ?_
  obtain ⟨g462, hF⟩ := gd_s hF
  refine va_sld hx hb hXs (by rw [hn0]; exact hbl) (fun h => Nat.not_le.mpr hbl h) hp.2 g462 dL_law_249 ?_
  obtain ⟨g463, hF⟩ := gd_s hF
  obtain ⟨⟨v465, M466⟩, e464, hF⟩ := ob_s hF
  refine m_callV (As := [.int (xs (x3 + (1 : Int32)).toNatClampNeg), .int (xs (x3 + (2 : Int32)).toNatClampNeg), .int (xs (x3 + (3 : Int32)).toNatClampNeg)]) (rest := []) X hp (w_X0_comes e464) q1015 q1016 q1017 q132 q1018 3 rfl ds_X0_comes ⟨Nat.le_of_ble_eq_true rfl, Nat.le_of_ble_eq_true rfl⟩ 1 (T := TX0) (N := 30) rfl (by decide) g463 hl.1 rfl (Nat.le_of_ble_eq_true rfl) dL_law_250 ⟨by show _ + 0 ≤ 601024; omega, by show _ + 0 ≤ 7293034; omega⟩ (fun H locs hp => ?_)
  refine lv_aload_n hx hb dL_law_253 rfl (lv_at hl 2 rfl) ?_
  refine lv_aload_n hx hb dL_law_254 rfl (lv_at hl 0 rfl) ?_
  refine lv_iload_n hx hb dL_law_255 rfl (lv_at hl 3 rfl) ?_
  refine lv_iconst (v := 1) hx hb dL_law_256 (by decide) ?_
  refine lv_iadd hx hb dL_law_257 ?_
  obtain ⟨g467, hF⟩ := gd_s hF
  refine va_sld hx hb hXs (by rw [hn0]; exact hbl) (fun h => Nat.not_le.mpr hbl h) hp.2 g467 dL_law_258 ?_
  refine lv_aload_n hx hb dL_law_259 rfl (lv_at hl 0 rfl) ?_
  refine lv_iload_n hx hb dL_law_260 rfl (lv_at hl 3 rfl) ?_
  refine lv_iconst (v := 2) hx hb dL_law_261 (by decide) ?_
  refine lv_iadd hx hb dL_law_262 ?_
  obtain ⟨g468, hF⟩ := gd_s hF
  refine va_sld hx hb hXs (by rw [hn0]; exact hbl) (fun h => Nat.not_le.mpr hbl h) hp.2 g468 dL_law_263 ?_
  refine lv_aload_n hx hb dL_law_264 rfl (lv_at hl 0 rfl) ?_
  refine lv_iload_n hx hb dL_law_265 rfl (lv_at hl 3 rfl) ?_
  refine lv_iconst (v := 3) hx hb dL_law_266 (by decide) ?_
  refine lv_iadd hx hb dL_law_267 ?_
  obtain ⟨g469, hF⟩ := gd_s hF
  refine va_sld hx hb hXs (by rw [hn0]; exact hbl) (fun h => Nat.not_le.mpr hbl h) hp.2 g469 dL_law_268 ?_
  obtain ⟨g470, hF⟩ := gd_s hF
  obtain ⟨⟨v472, M473⟩, e471, hF⟩ := ob_s hF
  refine m_callV (As := [.int (xs (x3 + (1 : Int32)).toNatClampNeg), .int (xs (x3 + (2 : Int32)).toNatClampNeg), .int (xs (x3 + (3 : Int32)).toNatClampNeg)]) (rest := [.int v465]) X hp (w_X5_comes e471) q1843 q1844 q1845 q144 q1846 3 rfl ds_X5_comes ⟨Nat.le_of_ble_eq_true rfl, Nat.le_of_ble_eq_true rfl⟩ 6 (T := TX5) (N := 40) rfl (by decide) g470 hl.1 rfl (Nat.le_of_ble_eq_true rfl) dL_law_269 ⟨by show _ + 0 ≤ 601024; omega, by show _ + 0 ≤ 7293034; omega⟩ (fun H locs hp => ?_)
  refine lv_icmp_eq (tgt := 1309) hx hb dL_law_272 (by decide) (fun c474 => ?_) (fun c474 => ?_)
  · have hF := if_p c474 hF
    exact b_L_law_1309 hV hVs hs hVx hn0 hXs hbl hbd X k18 hmk18 hk18 _ _ _ _ _ _ _ _ _ _ (by omega) hp (lv_sub hl [0, 1, 2, 3] rfl) hF
  · have hF := if_n c474 hF
    refine lv_iconst (v := 0) hx hb dL_law_275 (by decide) ?_
    exact absurd (lw_01 hF) (by decide)
def fb_L_law_277 (V : Nat → Nat) (xs : Nat → Int32) (L : Nat) (k18 : mSh → mMm → Nat → Nat → Nat → Nat → Int32 → Option (Int32 × mSh × mMm × Nat × Nat)) (S : mSh) (M : mMm) (n z : Nat) (x1 : Nat) (x2 : Nat) (x3 : Int32) : Option (Int32 × mSh × mMm × Nat × Nat) := gd (¬ ((x3 + (1 : Int32)) < 0 ∨ L ≤ (x3 + (1 : Int32)).toNatClampNeg)) (gd (¬ ((x3 + (2 : Int32)) < 0 ∨ L ≤ (x3 + (2 : Int32)).toNatClampNeg)) (gd ((S x1).1 = 1) (ob (f_X0_turn S M x1 (xs (x3 + (1 : Int32)).toNatClampNeg) (xs (x3 + (2 : Int32)).toNatClampNeg)) fun ⟨v451, M452⟩ => gd (¬ ((x3 + (1 : Int32)) < 0 ∨ L ≤ (x3 + (1 : Int32)).toNatClampNeg)) (gd (¬ ((x3 + (2 : Int32)) < 0 ∨ L ≤ (x3 + (2 : Int32)).toNatClampNeg)) (gd ((S x2).1 = 6) (ob (f_X5_turn S M452 x2 (xs (x3 + (1 : Int32)).toNatClampNeg) (xs (x3 + (2 : Int32)).toNatClampNeg)) fun ⟨v457, M458⟩ => (if v451 = v457 then (fb_L_law_1309 V xs L k18 S M458 n z x1 x2 x3) else some ((0 : Int32), S, M458, n, z))))))))
theorem mn_L_law_277 {S' : mSh} {M' : mMm} {n' z' : Nat} (k18 : mSh → mMm → Nat → Nat → Nat → Nat → Int32 → Option (Int32 × mSh × mMm × Nat × Nat)) (hmk18 : ∀ {S : mSh} {M : mMm} {n z : Nat} {x1 : Nat} {x2 : Nat} {x3 : Int32}, k18 S M n z x1 x2 x3 = some (1, S', M', n', z') → n ≤ n' ∧ z ≤ z') : ∀ {S : mSh} {M : mMm} {n z : Nat} {x1 : Nat} {x2 : Nat} {x3 : Int32}, fb_L_law_277 V xs L k18 S M n z x1 x2 x3 = some (1, S', M', n', z') → n ≤ n' ∧ z ≤ z' := by
  intro S M n z x1 x2 x3 hF
  unfold fb_L_law_277 at hF
  obtain ⟨g447, hF⟩ := gd_s hF
  obtain ⟨g448, hF⟩ := gd_s hF
  obtain ⟨g449, hF⟩ := gd_s hF
  obtain ⟨⟨v451, M452⟩, e450, hF⟩ := ob_s hF
  obtain ⟨g453, hF⟩ := gd_s hF
  obtain ⟨g454, hF⟩ := gd_s hF
  obtain ⟨g455, hF⟩ := gd_s hF
  obtain ⟨⟨v457, M458⟩, e456, hF⟩ := ob_s hF
  rcases Decidable.em (v451 = v457) with c459 | c459
  · have hF := if_p c459 hF
    have h9 := (mn_L_law_1309 (V := V) (xs := xs) (L := L) k18 hmk18) hF
    exact ⟨by omega, by omega⟩
  · have hF := if_n c459 hF
    exact absurd (lw_01 hF) (by decide)
theorem b_L_law_277 {S' : mSh} {M' : mMm} {n' z' : Nat} (hV : mV V n0 P) (hVs : mVs V n0 P) (hs : l.stackTraces = false) (hVx : mVx n0 P) (hn0 : s.heap.size = n0) (hXs : va_X b L xs s s.heap) (hbl : b < n0) (hbd : n' - n0 ≤ 601024 ∧ z' ≤ 7293034) (X : mCx D n0 P p m c cL_law 4 s #[Value.ref b] "WindingSquareLaw" meth (some .boolean)) (k18 : mSh → mMm → Nat → Nat → Nat → Nat → Int32 → Option (Int32 × mSh × mMm × Nat × Nat)) (hmk18 : ∀ {S : mSh} {M : mMm} {n z : Nat} {x1 : Nat} {x2 : Nat} {x3 : Int32}, k18 S M n z x1 x2 x3 = some (1, S', M', n', z') → n ≤ n' ∧ z ≤ z') (hk18 : ∀ (S : mSh) (M : mMm) (n z : Nat) (x1 : Nat) (x2 : Nat) (x3 : Int32) (H : Heap) (locs : List Loc) (ls : Array Slot), n0 ≤ n → mHp D n0 S M n s H locs → lv_has ls 4 [(0, .ref b), (1, .ref x1), (2, .ref x2), (3, .int x3)] → k18 S M n z x1 x2 x3 = some (1, S', M', n', z') → W p l e room_1 s m #[Value.ref b] below meth c H locs (n - n0) (z) (lw_Z below #[Value.ref b] s) (F0 m 18 ls [])) : ∀ (S : mSh) (M : mMm) (n z : Nat) (x1 : Nat) (x2 : Nat) (x3 : Int32) (H : Heap) (locs : List Loc) (ls : Array Slot), n0 ≤ n → mHp D n0 S M n s H locs → lv_has ls 4 [(0, .ref b), (1, .ref x1), (2, .ref x2), (3, .int x3)] → fb_L_law_277 V xs L k18 S M n z x1 x2 x3 = some (1, S', M', n', z') → W p l e room_1 s m #[Value.ref b] below meth c H locs (n - n0) (z) (lw_Z below #[Value.ref b] s) (F0 m 277 ls []) := by
  have hx := X.1.1
  have hb := X.1.2.1
  have hown := X.1.2.2.2.1
  have hts := X.1.2.2.2.2
  intro S M n z x1 x2 x3 H locs ls hn hp hl hF
  have hm0 := mn_L_law_277 _ hmk18 hF
  unfold fb_L_law_277 at hF
  refine lv_aload_n hx hb dL_law_277 rfl (lv_at hl 1 rfl) ?_
  refine lv_aload_n hx hb dL_law_278 rfl (lv_at hl 0 rfl) ?_
  refine lv_iload_n hx hb dL_law_279 rfl (lv_at hl 3 rfl) ?_
  refine lv_iconst (v := 1) hx hb dL_law_280 (by decide) ?_
  refine lv_iadd hx hb dL_law_281 ?_
  obtain ⟨g447, hF⟩ := gd_s hF
  refine va_sld hx hb hXs (by rw [hn0]; exact hbl) (fun h => Nat.not_le.mpr hbl h) hp.2 g447 dL_law_282 ?_
  refine lv_aload_n hx hb dL_law_283 rfl (lv_at hl 0 rfl) ?_
  refine lv_iload_n hx hb dL_law_284 rfl (lv_at hl 3 rfl) ?_
  refine lv_iconst (v := 2) hx hb dL_law_285 (by decide) ?_
  refine lv_iadd hx hb dL_law_286 ?_
  obtain ⟨g448, hF⟩ := gd_s hF
  refine va_sld hx hb hXs (by rw [hn0]; exact hbl) (fun h => Nat.not_le.mpr hbl h) hp.2 g448 dL_law_287 ?_
  obtain ⟨g449, hF⟩ := gd_s hF
  obtain ⟨⟨v451, M452⟩, e450, hF⟩ := ob_s hF
  refine m_callV (As := [.int (xs (x3 + (1 : Int32)).toNatClampNeg), .int (xs (x3 + (2 : Int32)).toNatClampNeg)]) (rest := []) X hp (w_X0_turn e450) q1048 q1049 q1050 q132 q1051 2 rfl ds_X0_turn ⟨Nat.le_of_ble_eq_true rfl, Nat.le_of_ble_eq_true rfl⟩ 1 (T := TX0) (N := 30) rfl (by decide) g449 hl.1 rfl (Nat.le_of_ble_eq_true rfl) dL_law_288 ⟨by show _ + 0 ≤ 601024; omega, by show _ + 0 ≤ 7293034; omega⟩ (fun H locs hp => ?_)
  refine lv_aload_n hx hb dL_law_291 rfl (lv_at hl 2 rfl) ?_
  refine lv_aload_n hx hb dL_law_292 rfl (lv_at hl 0 rfl) ?_
  refine lv_iload_n hx hb dL_law_293 rfl (lv_at hl 3 rfl) ?_
  refine lv_iconst (v := 1) hx hb dL_law_294 (by decide) ?_
  refine lv_iadd hx hb dL_law_295 ?_
  obtain ⟨g453, hF⟩ := gd_s hF
  refine va_sld hx hb hXs (by rw [hn0]; exact hbl) (fun h => Nat.not_le.mpr hbl h) hp.2 g453 dL_law_296 ?_
  refine lv_aload_n hx hb dL_law_297 rfl (lv_at hl 0 rfl) ?_
  refine lv_iload_n hx hb dL_law_298 rfl (lv_at hl 3 rfl) ?_
  refine lv_iconst (v := 2) hx hb dL_law_299 (by decide) ?_
  refine lv_iadd hx hb dL_law_300 ?_
  obtain ⟨g454, hF⟩ := gd_s hF
  refine va_sld hx hb hXs (by rw [hn0]; exact hbl) (fun h => Nat.not_le.mpr hbl h) hp.2 g454 dL_law_301 ?_
  obtain ⟨g455, hF⟩ := gd_s hF
  obtain ⟨⟨v457, M458⟩, e456, hF⟩ := ob_s hF
  refine m_callV (As := [.int (xs (x3 + (1 : Int32)).toNatClampNeg), .int (xs (x3 + (2 : Int32)).toNatClampNeg)]) (rest := [.int v451]) X hp (w_X5_turn e456) q1851 q1852 q1853 q144 q1854 2 rfl ds_X5_turn ⟨Nat.le_of_ble_eq_true rfl, Nat.le_of_ble_eq_true rfl⟩ 6 (T := TX5) (N := 40) rfl (by decide) g455 hl.1 rfl (Nat.le_of_ble_eq_true rfl) dL_law_302 ⟨by show _ + 0 ≤ 601024; omega, by show _ + 0 ≤ 7293034; omega⟩ (fun H locs hp => ?_)
  refine lv_icmp_eq (tgt := 1309) hx hb dL_law_305 (by decide) (fun c459 => ?_) (fun c459 => ?_)
  · have hF := if_p c459 hF
    exact b_L_law_1309 hV hVs hs hVx hn0 hXs hbl hbd X k18 hmk18 hk18 _ _ _ _ _ _ _ _ _ _ (by omega) hp (lv_sub hl [0, 1, 2, 3] rfl) hF
  · have hF := if_n c459 hF
    refine lv_iconst (v := 0) hx hb dL_law_308 (by decide) ?_
    exact absurd (lw_01 hF) (by decide)
def fb_L_law_310 (V : Nat → Nat) (xs : Nat → Int32) (L : Nat) (k18 : mSh → mMm → Nat → Nat → Nat → Nat → Int32 → Option (Int32 × mSh × mMm × Nat × Nat)) (S : mSh) (M : mMm) (n z : Nat) (x1 : Nat) (x2 : Nat) (x3 : Int32) : Option (Int32 × mSh × mMm × Nat × Nat) := gd (¬ ((x3 + (1 : Int32)) < 0 ∨ L ≤ (x3 + (1 : Int32)).toNatClampNeg)) (gd (¬ ((x3 + (2 : Int32)) < 0 ∨ L ≤ (x3 + (2 : Int32)).toNatClampNeg)) (gd (¬ ((x3 + (3 : Int32)) < 0 ∨ L ≤ (x3 + (3 : Int32)).toNatClampNeg)) (gd ((S x1).1 = 1) (ob (f_X0_lay S M x1 (xs (x3 + (1 : Int32)).toNatClampNeg) (xs (x3 + (2 : Int32)).toNatClampNeg) (xs (x3 + (3 : Int32)).toNatClampNeg)) fun ⟨v437, M438⟩ => gd (¬ ((x3 + (1 : Int32)) < 0 ∨ L ≤ (x3 + (1 : Int32)).toNatClampNeg)) (gd (¬ ((x3 + (2 : Int32)) < 0 ∨ L ≤ (x3 + (2 : Int32)).toNatClampNeg)) (gd (¬ ((x3 + (3 : Int32)) < 0 ∨ L ≤ (x3 + (3 : Int32)).toNatClampNeg)) (gd ((S x2).1 = 6) (ob (f_X5_lay S M438 x2 (xs (x3 + (1 : Int32)).toNatClampNeg) (xs (x3 + (2 : Int32)).toNatClampNeg) (xs (x3 + (3 : Int32)).toNatClampNeg)) fun ⟨v444, M445⟩ => (if v437 = v444 then (fb_L_law_1309 V xs L k18 S M445 n z x1 x2 x3) else some ((0 : Int32), S, M445, n, z))))))))))
theorem mn_L_law_310 {S' : mSh} {M' : mMm} {n' z' : Nat} (k18 : mSh → mMm → Nat → Nat → Nat → Nat → Int32 → Option (Int32 × mSh × mMm × Nat × Nat)) (hmk18 : ∀ {S : mSh} {M : mMm} {n z : Nat} {x1 : Nat} {x2 : Nat} {x3 : Int32}, k18 S M n z x1 x2 x3 = some (1, S', M', n', z') → n ≤ n' ∧ z ≤ z') : ∀ {S : mSh} {M : mMm} {n z : Nat} {x1 : Nat} {x2 : Nat} {x3 : Int32}, fb_L_law_310 V xs L k18 S M n z x1 x2 x3 = some (1, S', M', n', z') → n ≤ n' ∧ z ≤ z' := by
  intro S M n z x1 x2 x3 hF
  unfold fb_L_law_310 at hF
  obtain ⟨g432, hF⟩ := gd_s hF
  obtain ⟨g433, hF⟩ := gd_s hF
  obtain ⟨g434, hF⟩ := gd_s hF
  obtain ⟨g435, hF⟩ := gd_s hF
  obtain ⟨⟨v437, M438⟩, e436, hF⟩ := ob_s hF
  obtain ⟨g439, hF⟩ := gd_s hF
  obtain ⟨g440, hF⟩ := gd_s hF
  obtain ⟨g441, hF⟩ := gd_s hF
  obtain ⟨g442, hF⟩ := gd_s hF
  obtain ⟨⟨v444, M445⟩, e443, hF⟩ := ob_s hF
  rcases Decidable.em (v437 = v444) with c446 | c446
  · have hF := if_p c446 hF
    have h9 := (mn_L_law_1309 (V := V) (xs := xs) (L := L) k18 hmk18) hF
    exact ⟨by omega, by omega⟩
  · have hF := if_n c446 hF
    exact absurd (lw_01 hF) (by decide)
theorem b_L_law_310 {S' : mSh} {M' : mMm} {n' z' : Nat} (hV : mV V n0 P) (hVs : mVs V n0 P) (hs : l.stackTraces = false) (hVx : mVx n0 P) (hn0 : s.heap.size = n0) (hXs : va_X b L xs s s.heap) (hbl : b < n0) (hbd : n' - n0 ≤ 601024 ∧ z' ≤ 7293034) (X : mCx D n0 P p m c cL_law 4 s #[Value.ref b] "WindingSquareLaw" meth (some .boolean)) (k18 : mSh → mMm → Nat → Nat → Nat → Nat → Int32 → Option (Int32 × mSh × mMm × Nat × Nat)) (hmk18 : ∀ {S : mSh} {M : mMm} {n z : Nat} {x1 : Nat} {x2 : Nat} {x3 : Int32}, k18 S M n z x1 x2 x3 = some (1, S', M', n', z') → n ≤ n' ∧ z ≤ z') (hk18 : ∀ (S : mSh) (M : mMm) (n z : Nat) (x1 : Nat) (x2 : Nat) (x3 : Int32) (H : Heap) (locs : List Loc) (ls : Array Slot), n0 ≤ n → mHp D n0 S M n s H locs → lv_has ls 4 [(0, .ref b), (1, .ref x1), (2, .ref x2), (3, .int x3)] → k18 S M n z x1 x2 x3 = some (1, S', M', n', z') → W p l e room_1 s m #[Value.ref b] below meth c H locs (n - n0) (z) (lw_Z below #[Value.ref b] s) (F0 m 18 ls [])) : ∀ (S : mSh) (M : mMm) (n z : Nat) (x1 : Nat) (x2 : Nat) (x3 : Int32) (H : Heap) (locs : List Loc) (ls : Array Slot), n0 ≤ n → mHp D n0 S M n s H locs → lv_has ls 4 [(0, .ref b), (1, .ref x1), (2, .ref x2), (3, .int x3)] → fb_L_law_310 V xs L k18 S M n z x1 x2 x3 = some (1, S', M', n', z') → W p l e room_1 s m #[Value.ref b] below meth c H locs (n - n0) (z) (lw_Z below #[Value.ref b] s) (F0 m 310 ls []) := by
  have hx := X.1.1
  have hb := X.1.2.1
  have hown := X.1.2.2.2.1
  have hts := X.1.2.2.2.2
  intro S M n z x1 x2 x3 H locs ls hn hp hl hF
  have hm0 := mn_L_law_310 _ hmk18 hF
  unfold fb_L_law_310 at hF
  refine lv_aload_n hx hb dL_law_310 rfl (lv_at hl 1 rfl) ?_
  refine lv_aload_n hx hb dL_law_311 rfl (lv_at hl 0 rfl) ?_
  refine lv_iload_n hx hb dL_law_312 rfl (lv_at hl 3 rfl) ?_
  refine lv_iconst (v := 1) hx hb dL_law_313 (by decide) ?_
  refine lv_iadd hx hb dL_law_314 ?_
  obtain ⟨g432, hF⟩ := gd_s hF
  refine va_sld hx hb hXs (by rw [hn0]; exact hbl) (fun h => Nat.not_le.mpr hbl h) hp.2 g432 dL_law_315 ?_
  refine lv_aload_n hx hb dL_law_316 rfl (lv_at hl 0 rfl) ?_
  refine lv_iload_n hx hb dL_law_317 rfl (lv_at hl 3 rfl) ?_
  refine lv_iconst (v := 2) hx hb dL_law_318 (by decide) ?_
  refine lv_iadd hx hb dL_law_319 ?_
  obtain ⟨g433, hF⟩ := gd_s hF
  refine va_sld hx hb hXs (by rw [hn0]; exact hbl) (fun h => Nat.not_le.mpr hbl h) hp.2 g433 dL_law_320 ?_
  refine lv_aload_n hx hb dL_law_321 rfl (lv_at hl 0 rfl) ?_
  refine lv_iload_n hx hb dL_law_322 rfl (lv_at hl 3 rfl) ?_
  refine lv_iconst (v := 3) hx hb dL_law_323 (by decide) ?_
  refine lv_iadd hx hb dL_law_324 ?_
  obtain ⟨g434, hF⟩ := gd_s hF
  refine va_sld hx hb hXs (by rw [hn0]; exact hbl) (fun h => Nat.not_le.mpr hbl h) hp.2 g434 dL_law_325 ?_
  obtain ⟨g435, hF⟩ := gd_s hF
  obtain ⟨⟨v437, M438⟩, e436, hF⟩ := ob_s hF
  refine m_callV (As := [.int (xs (x3 + (1 : Int32)).toNatClampNeg), .int (xs (x3 + (2 : Int32)).toNatClampNeg), .int (xs (x3 + (3 : Int32)).toNatClampNeg)]) (rest := []) X hp (w_X0_lay e436) q1064 q1065 q1066 q132 q1067 3 rfl ds_X0_lay ⟨Nat.le_of_ble_eq_true rfl, Nat.le_of_ble_eq_true rfl⟩ 1 (T := TX0) (N := 30) rfl (by decide) g435 hl.1 rfl (Nat.le_of_ble_eq_true rfl) dL_law_326 ⟨by show _ + 0 ≤ 601024; omega, by show _ + 0 ≤ 7293034; omega⟩ (fun H locs hp => ?_)
  refine lv_aload_n hx hb dL_law_329 rfl (lv_at hl 2 rfl) ?_
  refine lv_aload_n hx hb dL_law_330 rfl (lv_at hl 0 rfl) ?_
  refine lv_iload_n hx hb dL_law_331 rfl (lv_at hl 3 rfl) ?_
  refine lv_iconst (v := 1) hx hb dL_law_332 (by decide) ?_
  refine lv_iadd hx hb dL_law_333 ?_
  obtain ⟨g439, hF⟩ := gd_s hF
  refine va_sld hx hb hXs (by rw [hn0]; exact hbl) (fun h => Nat.not_le.mpr hbl h) hp.2 g439 dL_law_334 ?_
  refine lv_aload_n hx hb dL_law_335 rfl (lv_at hl 0 rfl) ?_
  refine lv_iload_n hx hb dL_law_336 rfl (lv_at hl 3 rfl) ?_
  refine lv_iconst (v := 2) hx hb dL_law_337 (by decide) ?_
  refine lv_iadd hx hb dL_law_338 ?_
  obtain ⟨g440, hF⟩ := gd_s hF
  refine va_sld hx hb hXs (by rw [hn0]; exact hbl) (fun h => Nat.not_le.mpr hbl h) hp.2 g440 dL_law_339 ?_
  refine lv_aload_n hx hb dL_law_340 rfl (lv_at hl 0 rfl) ?_
  refine lv_iload_n hx hb dL_law_341 rfl (lv_at hl 3 rfl) ?_
  refine lv_iconst (v := 3) hx hb dL_law_342 (by decide) ?_
  refine lv_iadd hx hb dL_law_343 ?_
  obtain ⟨g441, hF⟩ := gd_s hF
  refine va_sld hx hb hXs (by rw [hn0]; exact hbl) (fun h => Nat.not_le.mpr hbl h) hp.2 g441 dL_law_344 ?_
  obtain ⟨g442, hF⟩ := gd_s hF
  obtain ⟨⟨v444, M445⟩, e443, hF⟩ := ob_s hF
  refine m_callV (As := [.int (xs (x3 + (1 : Int32)).toNatClampNeg), .int (xs (x3 + (2 : Int32)).toNatClampNeg), .int (xs (x3 + (3 : Int32)).toNatClampNeg)]) (rest := [.int v437]) X hp (w_X5_lay e443) q1855 q1856 q1857 q144 q1858 3 rfl ds_X5_lay ⟨Nat.le_of_ble_eq_true rfl, Nat.le_of_ble_eq_true rfl⟩ 6 (T := TX5) (N := 40) rfl (by decide) g442 hl.1 rfl (Nat.le_of_ble_eq_true rfl) dL_law_345 ⟨by show _ + 0 ≤ 601024; omega, by show _ + 0 ≤ 7293034; omega⟩ (fun H locs hp => ?_)
  refine lv_icmp_eq (tgt := 1309) hx hb dL_law_348 (by decide) (fun c446 => ?_) (fun c446 => ?_)
  · have hF := if_p c446 hF
    exact b_L_law_1309 hV hVs hs hVx hn0 hXs hbl hbd X k18 hmk18 hk18 _ _ _ _ _ _ _ _ _ _ (by omega) hp (lv_sub hl [0, 1, 2, 3] rfl) hF
  · have hF := if_n c446 hF
    refine lv_iconst (v := 0) hx hb dL_law_351 (by decide) ?_
    exact absurd (lw_01 hF) (by decide)
def fb_L_law_353 (V : Nat → Nat) (xs : Nat → Int32) (L : Nat) (k18 : mSh → mMm → Nat → Nat → Nat → Nat → Int32 → Option (Int32 × mSh × mMm × Nat × Nat)) (S : mSh) (M : mMm) (n z : Nat) (x1 : Nat) (x2 : Nat) (x3 : Int32) : Option (Int32 × mSh × mMm × Nat × Nat) := gd (¬ ((x3 + (1 : Int32)) < 0 ∨ L ≤ (x3 + (1 : Int32)).toNatClampNeg)) (gd ((S x1).1 = 1) (ob (f_X0_minutes S M x1 (xs (x3 + (1 : Int32)).toNatClampNeg)) fun ⟨v424, M425⟩ => gd (¬ ((x3 + (1 : Int32)) < 0 ∨ L ≤ (x3 + (1 : Int32)).toNatClampNeg)) (gd ((S x2).1 = 6) (ob (f_X5_minutes S M425 x2 (xs (x3 + (1 : Int32)).toNatClampNeg)) fun ⟨v429, M430⟩ => (if v424 = v429 then (fb_L_law_1309 V xs L k18 S M430 n z x1 x2 x3) else some ((0 : Int32), S, M430, n, z))))))
theorem mn_L_law_353 {S' : mSh} {M' : mMm} {n' z' : Nat} (k18 : mSh → mMm → Nat → Nat → Nat → Nat → Int32 → Option (Int32 × mSh × mMm × Nat × Nat)) (hmk18 : ∀ {S : mSh} {M : mMm} {n z : Nat} {x1 : Nat} {x2 : Nat} {x3 : Int32}, k18 S M n z x1 x2 x3 = some (1, S', M', n', z') → n ≤ n' ∧ z ≤ z') : ∀ {S : mSh} {M : mMm} {n z : Nat} {x1 : Nat} {x2 : Nat} {x3 : Int32}, fb_L_law_353 V xs L k18 S M n z x1 x2 x3 = some (1, S', M', n', z') → n ≤ n' ∧ z ≤ z' := by
  intro S M n z x1 x2 x3 hF
  unfold fb_L_law_353 at hF
  obtain ⟨g421, hF⟩ := gd_s hF
  obtain ⟨g422, hF⟩ := gd_s hF
  obtain ⟨⟨v424, M425⟩, e423, hF⟩ := ob_s hF
  obtain ⟨g426, hF⟩ := gd_s hF
  obtain ⟨g427, hF⟩ := gd_s hF
  obtain ⟨⟨v429, M430⟩, e428, hF⟩ := ob_s hF
  rcases Decidable.em (v424 = v429) with c431 | c431
  · have hF := if_p c431 hF
    have h9 := (mn_L_law_1309 (V := V) (xs := xs) (L := L) k18 hmk18) hF
    exact ⟨by omega, by omega⟩
  · have hF := if_n c431 hF
    exact absurd (lw_01 hF) (by decide)
theorem b_L_law_353 {S' : mSh} {M' : mMm} {n' z' : Nat} (hV : mV V n0 P) (hVs : mVs V n0 P) (hs : l.stackTraces = false) (hVx : mVx n0 P) (hn0 : s.heap.size = n0) (hXs : va_X b L xs s s.heap) (hbl : b < n0) (hbd : n' - n0 ≤ 601024 ∧ z' ≤ 7293034) (X : mCx D n0 P p m c cL_law 4 s #[Value.ref b] "WindingSquareLaw" meth (some .boolean)) (k18 : mSh → mMm → Nat → Nat → Nat → Nat → Int32 → Option (Int32 × mSh × mMm × Nat × Nat)) (hmk18 : ∀ {S : mSh} {M : mMm} {n z : Nat} {x1 : Nat} {x2 : Nat} {x3 : Int32}, k18 S M n z x1 x2 x3 = some (1, S', M', n', z') → n ≤ n' ∧ z ≤ z') (hk18 : ∀ (S : mSh) (M : mMm) (n z : Nat) (x1 : Nat) (x2 : Nat) (x3 : Int32) (H : Heap) (locs : List Loc) (ls : Array Slot), n0 ≤ n → mHp D n0 S M n s H locs → lv_has ls 4 [(0, .ref b), (1, .ref x1), (2, .ref x2), (3, .int x3)] → k18 S M n z x1 x2 x3 = some (1, S', M', n', z') → W p l e room_1 s m #[Value.ref b] below meth c H locs (n - n0) (z) (lw_Z below #[Value.ref b] s) (F0 m 18 ls [])) : ∀ (S : mSh) (M : mMm) (n z : Nat) (x1 : Nat) (x2 : Nat) (x3 : Int32) (H : Heap) (locs : List Loc) (ls : Array Slot), n0 ≤ n → mHp D n0 S M n s H locs → lv_has ls 4 [(0, .ref b), (1, .ref x1), (2, .ref x2), (3, .int x3)] → fb_L_law_353 V xs L k18 S M n z x1 x2 x3 = some (1, S', M', n', z') → W p l e room_1 s m #[Value.ref b] below meth c H locs (n - n0) (z) (lw_Z below #[Value.ref b] s) (F0 m 353 ls []) := by
  have hx := X.1.1
  have hb := X.1.2.1
  have hown := X.1.2.2.2.1
  have hts := X.1.2.2.2.2
  intro S M n z x1 x2 x3 H locs ls hn hp hl hF
  have hm0 := mn_L_law_353 _ hmk18 hF
  unfold fb_L_law_353 at hF
  refine lv_aload_n hx hb dL_law_353 rfl (lv_at hl 1 rfl) ?_
  refine lv_aload_n hx hb dL_law_354 rfl (lv_at hl 0 rfl) ?_
  refine lv_iload_n hx hb dL_law_355 rfl (lv_at hl 3 rfl) ?_
  refine lv_iconst (v := 1) hx hb dL_law_356 (by decide) ?_
  refine lv_iadd hx hb dL_law_357 ?_
  obtain ⟨g421, hF⟩ := gd_s hF
  refine va_sld hx hb hXs (by rw [hn0]; exact hbl) (fun h => Nat.not_le.mpr hbl h) hp.2 g421 dL_law_358 ?_
  obtain ⟨g422, hF⟩ := gd_s hF
  obtain ⟨⟨v424, M425⟩, e423, hF⟩ := ob_s hF
  refine m_callV (As := [.int (xs (x3 + (1 : Int32)).toNatClampNeg)]) (rest := []) X hp (w_X0_minutes e423) q1072 q1073 q1074 q132 q1075 1 rfl ds_X0_minutes ⟨Nat.le_of_ble_eq_true rfl, Nat.le_of_ble_eq_true rfl⟩ 1 (T := TX0) (N := 30) rfl (by decide) g422 hl.1 rfl (Nat.le_of_ble_eq_true rfl) dL_law_359 ⟨by show _ + 0 ≤ 601024; omega, by show _ + 0 ≤ 7293034; omega⟩ (fun H locs hp => ?_)
  refine lv_aload_n hx hb dL_law_362 rfl (lv_at hl 2 rfl) ?_
  refine lv_aload_n hx hb dL_law_363 rfl (lv_at hl 0 rfl) ?_
  refine lv_iload_n hx hb dL_law_364 rfl (lv_at hl 3 rfl) ?_
  refine lv_iconst (v := 1) hx hb dL_law_365 (by decide) ?_
  refine lv_iadd hx hb dL_law_366 ?_
  obtain ⟨g426, hF⟩ := gd_s hF
  refine va_sld hx hb hXs (by rw [hn0]; exact hbl) (fun h => Nat.not_le.mpr hbl h) hp.2 g426 dL_law_367 ?_
  obtain ⟨g427, hF⟩ := gd_s hF
  obtain ⟨⟨v429, M430⟩, e428, hF⟩ := ob_s hF
  refine m_callV (As := [.int (xs (x3 + (1 : Int32)).toNatClampNeg)]) (rest := [.int v424]) X hp (w_X5_minutes e428) q1715 q1716 q1717 q144 q1718 1 rfl ds_X5_minutes ⟨Nat.le_of_ble_eq_true rfl, Nat.le_of_ble_eq_true rfl⟩ 6 (T := TX5) (N := 40) rfl (by decide) g427 hl.1 rfl (Nat.le_of_ble_eq_true rfl) dL_law_368 ⟨by show _ + 0 ≤ 601024; omega, by show _ + 0 ≤ 7293034; omega⟩ (fun H locs hp => ?_)
  refine lv_icmp_eq (tgt := 1309) hx hb dL_law_371 (by decide) (fun c431 => ?_) (fun c431 => ?_)
  · have hF := if_p c431 hF
    exact b_L_law_1309 hV hVs hs hVx hn0 hXs hbl hbd X k18 hmk18 hk18 _ _ _ _ _ _ _ _ _ _ (by omega) hp (lv_sub hl [0, 1, 2, 3] rfl) hF
  · have hF := if_n c431 hF
    refine lv_iconst (v := 0) hx hb dL_law_374 (by decide) ?_
    exact absurd (lw_01 hF) (by decide)
def fb_L_law_376 (V : Nat → Nat) (xs : Nat → Int32) (L : Nat) (k18 : mSh → mMm → Nat → Nat → Nat → Nat → Int32 → Option (Int32 × mSh × mMm × Nat × Nat)) (S : mSh) (M : mMm) (n z : Nat) (x1 : Nat) (x2 : Nat) (x3 : Int32) : Option (Int32 × mSh × mMm × Nat × Nat) := gd (¬ ((x3 + (1 : Int32)) < 0 ∨ L ≤ (x3 + (1 : Int32)).toNatClampNeg)) (gd (¬ ((x3 + (2 : Int32)) < 0 ∨ L ≤ (x3 + (2 : Int32)).toNatClampNeg)) (gd (¬ ((x3 + (3 : Int32)) < 0 ∨ L ≤ (x3 + (3 : Int32)).toNatClampNeg)) (gd (¬ ((x3 + (4 : Int32)) < 0 ∨ L ≤ (x3 + (4 : Int32)).toNatClampNeg)) (gd (¬ ((x3 + (5 : Int32)) < 0 ∨ L ≤ (x3 + (5 : Int32)).toNatClampNeg)) (gd ((S x1).1 = 1) (ob (f_X0_feed S M x1 (xs (x3 + (1 : Int32)).toNatClampNeg) (xs (x3 + (2 : Int32)).toNatClampNeg) (xs (x3 + (3 : Int32)).toNatClampNeg) (xs (x3 + (4 : Int32)).toNatClampNeg) (xs (x3 + (5 : Int32)).toNatClampNeg)) fun ⟨v409, M410⟩ => gd (¬ ((x3 + (1 : Int32)) < 0 ∨ L ≤ (x3 + (1 : Int32)).toNatClampNeg)) (gd (¬ ((x3 + (2 : Int32)) < 0 ∨ L ≤ (x3 + (2 : Int32)).toNatClampNeg)) (gd (¬ ((x3 + (3 : Int32)) < 0 ∨ L ≤ (x3 + (3 : Int32)).toNatClampNeg)) (gd (¬ ((x3 + (4 : Int32)) < 0 ∨ L ≤ (x3 + (4 : Int32)).toNatClampNeg)) (gd (¬ ((x3 + (5 : Int32)) < 0 ∨ L ≤ (x3 + (5 : Int32)).toNatClampNeg)) (gd ((S x2).1 = 6) (ob (f_X5_feed S M410 x2 (xs (x3 + (1 : Int32)).toNatClampNeg) (xs (x3 + (2 : Int32)).toNatClampNeg) (xs (x3 + (3 : Int32)).toNatClampNeg) (xs (x3 + (4 : Int32)).toNatClampNeg) (xs (x3 + (5 : Int32)).toNatClampNeg)) fun ⟨v418, M419⟩ => (if v409 = v418 then (fb_L_law_1309 V xs L k18 S M419 n z x1 x2 x3) else some ((0 : Int32), S, M419, n, z))))))))))))))
theorem mn_L_law_376 {S' : mSh} {M' : mMm} {n' z' : Nat} (k18 : mSh → mMm → Nat → Nat → Nat → Nat → Int32 → Option (Int32 × mSh × mMm × Nat × Nat)) (hmk18 : ∀ {S : mSh} {M : mMm} {n z : Nat} {x1 : Nat} {x2 : Nat} {x3 : Int32}, k18 S M n z x1 x2 x3 = some (1, S', M', n', z') → n ≤ n' ∧ z ≤ z') : ∀ {S : mSh} {M : mMm} {n z : Nat} {x1 : Nat} {x2 : Nat} {x3 : Int32}, fb_L_law_376 V xs L k18 S M n z x1 x2 x3 = some (1, S', M', n', z') → n ≤ n' ∧ z ≤ z' := by
  intro S M n z x1 x2 x3 hF
  unfold fb_L_law_376 at hF
  obtain ⟨g402, hF⟩ := gd_s hF
  obtain ⟨g403, hF⟩ := gd_s hF
  obtain ⟨g404, hF⟩ := gd_s hF
  obtain ⟨g405, hF⟩ := gd_s hF
  obtain ⟨g406, hF⟩ := gd_s hF
  obtain ⟨g407, hF⟩ := gd_s hF
  obtain ⟨⟨v409, M410⟩, e408, hF⟩ := ob_s hF
  obtain ⟨g411, hF⟩ := gd_s hF
  obtain ⟨g412, hF⟩ := gd_s hF
  obtain ⟨g413, hF⟩ := gd_s hF
  obtain ⟨g414, hF⟩ := gd_s hF
  obtain ⟨g415, hF⟩ := gd_s hF
  obtain ⟨g416, hF⟩ := gd_s hF
  obtain ⟨⟨v418, M419⟩, e417, hF⟩ := ob_s hF
  rcases Decidable.em (v409 = v418) with c420 | c420
  · have hF := if_p c420 hF
    have h9 := (mn_L_law_1309 (V := V) (xs := xs) (L := L) k18 hmk18) hF
    exact ⟨by omega, by omega⟩
  · have hF := if_n c420 hF
    exact absurd (lw_01 hF) (by decide)
theorem b_L_law_376 {S' : mSh} {M' : mMm} {n' z' : Nat} (hV : mV V n0 P) (hVs : mVs V n0 P) (hs : l.stackTraces = false) (hVx : mVx n0 P) (hn0 : s.heap.size = n0) (hXs : va_X b L xs s s.heap) (hbl : b < n0) (hbd : n' - n0 ≤ 601024 ∧ z' ≤ 7293034) (X : mCx D n0 P p m c cL_law 4 s #[Value.ref b] "WindingSquareLaw" meth (some .boolean)) (k18 : mSh → mMm → Nat → Nat → Nat → Nat → Int32 → Option (Int32 × mSh × mMm × Nat × Nat)) (hmk18 : ∀ {S : mSh} {M : mMm} {n z : Nat} {x1 : Nat} {x2 : Nat} {x3 : Int32}, k18 S M n z x1 x2 x3 = some (1, S', M', n', z') → n ≤ n' ∧ z ≤ z') (hk18 : ∀ (S : mSh) (M : mMm) (n z : Nat) (x1 : Nat) (x2 : Nat) (x3 : Int32) (H : Heap) (locs : List Loc) (ls : Array Slot), n0 ≤ n → mHp D n0 S M n s H locs → lv_has ls 4 [(0, .ref b), (1, .ref x1), (2, .ref x2), (3, .int x3)] → k18 S M n z x1 x2 x3 = some (1, S', M', n', z') → W p l e room_1 s m #[Value.ref b] below meth c H locs (n - n0) (z) (lw_Z below #[Value.ref b] s) (F0 m 18 ls [])) : ∀ (S : mSh) (M : mMm) (n z : Nat) (x1 : Nat) (x2 : Nat) (x3 : Int32) (H : Heap) (locs : List Loc) (ls : Array Slot), n0 ≤ n → mHp D n0 S M n s H locs → lv_has ls 4 [(0, .ref b), (1, .ref x1), (2, .ref x2), (3, .int x3)] → fb_L_law_376 V xs L k18 S M n z x1 x2 x3 = some (1, S', M', n', z') → W p l e room_1 s m #[Value.ref b] below meth c H locs (n - n0) (z) (lw_Z below #[Value.ref b] s) (F0 m 376 ls []) := by
  have hx := X.1.1
  have hb := X.1.2.1
  have hown := X.1.2.2.2.1
  have hts := X.1.2.2.2.2
  intro S M n z x1 x2 x3 H locs ls hn hp hl hF
  have hm0 := mn_L_law_376 _ hmk18 hF
  unfold fb_L_law_376 at hF
  refine lv_aload_n hx hb dL_law_376 rfl (lv_at hl 1 rfl) ?_
  refine lv_aload_n hx hb dL_law_377 rfl (lv_at hl 0 rfl) ?_
  refine lv_iload_n hx hb dL_law_378 rfl (lv_at hl 3 rfl) ?_
  refine lv_iconst (v := 1) hx hb dL_law_379 (by decide) ?_
  refine lv_iadd hx hb dL_law_380 ?_
  obtain ⟨g402, hF⟩ := gd_s hF
  refine va_sld hx hb hXs (by rw [hn0]; exact hbl) (fun h => Nat.not_le.mpr hbl h) hp.2 g402 dL_law_381 ?_
  refine lv_aload_n hx hb dL_law_382 rfl (lv_at hl 0 rfl) ?_
  refine lv_iload_n hx hb dL_law_383 rfl (lv_at hl 3 rfl) ?_
  refine lv_iconst (v := 2) hx hb dL_law_384 (by decide) ?_
  refine lv_iadd hx hb dL_law_385 ?_
  obtain ⟨g403, hF⟩ := gd_s hF
  refine va_sld hx hb hXs (by rw [hn0]; exact hbl) (fun h => Nat.not_le.mpr hbl h) hp.2 g403 dL_law_386 ?_
  refine lv_aload_n hx hb dL_law_387 rfl (lv_at hl 0 rfl) ?_
  refine lv_iload_n hx hb dL_law_388 rfl (lv_at hl 3 rfl) ?_
  refine lv_iconst (v := 3) hx hb dL_law_389 (by decide) ?_
  refine lv_iadd hx hb dL_law_390 ?_
  obtain ⟨g404, hF⟩ := gd_s hF
  refine va_sld hx hb hXs (by rw [hn0]; exact hbl) (fun h => Nat.not_le.mpr hbl h) hp.2 g404 dL_law_391 ?_
  refine lv_aload_n hx hb dL_law_392 rfl (lv_at hl 0 rfl) ?_
  refine lv_iload_n hx hb dL_law_393 rfl (lv_at hl 3 rfl) ?_
  refine lv_iconst (v := 4) hx hb dL_law_394 (by decide) ?_
  refine lv_iadd hx hb dL_law_395 ?_
  obtain ⟨g405, hF⟩ := gd_s hF
  refine va_sld hx hb hXs (by rw [hn0]; exact hbl) (fun h => Nat.not_le.mpr hbl h) hp.2 g405 dL_law_396 ?_
  refine lv_aload_n hx hb dL_law_397 rfl (lv_at hl 0 rfl) ?_
  refine lv_iload_n hx hb dL_law_398 rfl (lv_at hl 3 rfl) ?_
  refine lv_iconst (v := 5) hx hb dL_law_399 (by decide) ?_
  refine lv_iadd hx hb dL_law_400 ?_
  obtain ⟨g406, hF⟩ := gd_s hF
  refine va_sld hx hb hXs (by rw [hn0]; exact hbl) (fun h => Nat.not_le.mpr hbl h) hp.2 g406 dL_law_401 ?_
  obtain ⟨g407, hF⟩ := gd_s hF
  obtain ⟨⟨v409, M410⟩, e408, hF⟩ := ob_s hF
  refine m_callV (As := [.int (xs (x3 + (1 : Int32)).toNatClampNeg), .int (xs (x3 + (2 : Int32)).toNatClampNeg), .int (xs (x3 + (3 : Int32)).toNatClampNeg), .int (xs (x3 + (4 : Int32)).toNatClampNeg), .int (xs (x3 + (5 : Int32)).toNatClampNeg)]) (rest := []) X hp (w_X0_feed e408) q553 q554 q555 q132 q556 5 rfl ds_X0_feed ⟨Nat.le_of_ble_eq_true rfl, Nat.le_of_ble_eq_true rfl⟩ 1 (T := TX0) (N := 30) rfl (by decide) g407 hl.1 rfl (Nat.le_of_ble_eq_true rfl) dL_law_402 ⟨by show _ + 0 ≤ 601024; omega, by show _ + 0 ≤ 7293034; omega⟩ (fun H locs hp => ?_)
  refine lv_aload_n hx hb dL_law_405 rfl (lv_at hl 2 rfl) ?_
  refine lv_aload_n hx hb dL_law_406 rfl (lv_at hl 0 rfl) ?_
  refine lv_iload_n hx hb dL_law_407 rfl (lv_at hl 3 rfl) ?_
  refine lv_iconst (v := 1) hx hb dL_law_408 (by decide) ?_
  refine lv_iadd hx hb dL_law_409 ?_
  obtain ⟨g411, hF⟩ := gd_s hF
  refine va_sld hx hb hXs (by rw [hn0]; exact hbl) (fun h => Nat.not_le.mpr hbl h) hp.2 g411 dL_law_410 ?_
  refine lv_aload_n hx hb dL_law_411 rfl (lv_at hl 0 rfl) ?_
  refine lv_iload_n hx hb dL_law_412 rfl (lv_at hl 3 rfl) ?_
  refine lv_iconst (v := 2) hx hb dL_law_413 (by decide) ?_
  refine lv_iadd hx hb dL_law_414 ?_
  obtain ⟨g412, hF⟩ := gd_s hF
  refine va_sld hx hb hXs (by rw [hn0]; exact hbl) (fun h => Nat.not_le.mpr hbl h) hp.2 g412 dL_law_415 ?_
  refine lv_aload_n hx hb dL_law_416 rfl (lv_at hl 0 rfl) ?_
  refine lv_iload_n hx hb dL_law_417 rfl (lv_at hl 3 rfl) ?_
  refine lv_iconst (v := 3) hx hb dL_law_418 (by decide) ?_
  refine lv_iadd hx hb dL_law_419 ?_
  obtain ⟨g413, hF⟩ := gd_s hF
  refine va_sld hx hb hXs (by rw [hn0]; exact hbl) (fun h => Nat.not_le.mpr hbl h) hp.2 g413 dL_law_420 ?_
  refine lv_aload_n hx hb dL_law_421 rfl (lv_at hl 0 rfl) ?_
  refine lv_iload_n hx hb dL_law_422 rfl (lv_at hl 3 rfl) ?_
  refine lv_iconst (v := 4) hx hb dL_law_423 (by decide) ?_
  refine lv_iadd hx hb dL_law_424 ?_
  obtain ⟨g414, hF⟩ := gd_s hF
  refine va_sld hx hb hXs (by rw [hn0]; exact hbl) (fun h => Nat.not_le.mpr hbl h) hp.2 g414 dL_law_425 ?_
  refine lv_aload_n hx hb dL_law_426 rfl (lv_at hl 0 rfl) ?_
  refine lv_iload_n hx hb dL_law_427 rfl (lv_at hl 3 rfl) ?_
  refine lv_iconst (v := 5) hx hb dL_law_428 (by decide) ?_
  refine lv_iadd hx hb dL_law_429 ?_
  obtain ⟨g415, hF⟩ := gd_s hF
  refine va_sld hx hb hXs (by rw [hn0]; exact hbl) (fun h => Nat.not_le.mpr hbl h) hp.2 g415 dL_law_430 ?_
  obtain ⟨g416, hF⟩ := gd_s hF
  obtain ⟨⟨v418, M419⟩, e417, hF⟩ := ob_s hF
  refine m_callV (As := [.int (xs (x3 + (1 : Int32)).toNatClampNeg), .int (xs (x3 + (2 : Int32)).toNatClampNeg), .int (xs (x3 + (3 : Int32)).toNatClampNeg), .int (xs (x3 + (4 : Int32)).toNatClampNeg), .int (xs (x3 + (5 : Int32)).toNatClampNeg)]) (rest := [.int v409]) X hp (w_X5_feed e417) q1580 q1581 q1582 q144 q1583 5 rfl ds_X5_feed ⟨Nat.le_of_ble_eq_true rfl, Nat.le_of_ble_eq_true rfl⟩ 6 (T := TX5) (N := 40) rfl (by decide) g416 hl.1 rfl (Nat.le_of_ble_eq_true rfl) dL_law_431 ⟨by show _ + 0 ≤ 601024; omega, by show _ + 0 ≤ 7293034; omega⟩ (fun H locs hp => ?_)
  refine lv_icmp_eq (tgt := 1309) hx hb dL_law_434 (by decide) (fun c420 => ?_) (fun c420 => ?_)
  · have hF := if_p c420 hF
    exact b_L_law_1309 hV hVs hs hVx hn0 hXs hbl hbd X k18 hmk18 hk18 _ _ _ _ _ _ _ _ _ _ (by omega) hp (lv_sub hl [0, 1, 2, 3] rfl) hF
  · have hF := if_n c420 hF
    refine lv_iconst (v := 0) hx hb dL_law_437 (by decide) ?_
    exact absurd (lw_01 hF) (by decide)
def fb_L_law_439 (V : Nat → Nat) (xs : Nat → Int32) (L : Nat) (k18 : mSh → mMm → Nat → Nat → Nat → Nat → Int32 → Option (Int32 × mSh × mMm × Nat × Nat)) (S : mSh) (M : mMm) (n z : Nat) (x1 : Nat) (x2 : Nat) (x3 : Int32) : Option (Int32 × mSh × mMm × Nat × Nat) := gd (¬ ((x3 + (1 : Int32)) < 0 ∨ L ≤ (x3 + (1 : Int32)).toNatClampNeg)) (gd ((S x1).1 = 1) (ob (f_X0_end S M x1 (xs (x3 + (1 : Int32)).toNatClampNeg)) fun ⟨v394, M395⟩ => gd (¬ ((x3 + (1 : Int32)) < 0 ∨ L ≤ (x3 + (1 : Int32)).toNatClampNeg)) (gd ((S x2).1 = 6) (ob (f_X5_end S M395 x2 (xs (x3 + (1 : Int32)).toNatClampNeg)) fun ⟨v399, M400⟩ => (if v394 = v399 then (fb_L_law_1309 V xs L k18 S M400 n z x1 x2 x3) else some ((0 : Int32), S, M400, n, z))))))
theorem mn_L_law_439 {S' : mSh} {M' : mMm} {n' z' : Nat} (k18 : mSh → mMm → Nat → Nat → Nat → Nat → Int32 → Option (Int32 × mSh × mMm × Nat × Nat)) (hmk18 : ∀ {S : mSh} {M : mMm} {n z : Nat} {x1 : Nat} {x2 : Nat} {x3 : Int32}, k18 S M n z x1 x2 x3 = some (1, S', M', n', z') → n ≤ n' ∧ z ≤ z') : ∀ {S : mSh} {M : mMm} {n z : Nat} {x1 : Nat} {x2 : Nat} {x3 : Int32}, fb_L_law_439 V xs L k18 S M n z x1 x2 x3 = some (1, S', M', n', z') → n ≤ n' ∧ z ≤ z' := by
  intro S M n z x1 x2 x3 hF
  unfold fb_L_law_439 at hF
  obtain ⟨g391, hF⟩ := gd_s hF
  obtain ⟨g392, hF⟩ := gd_s hF
  obtain ⟨⟨v394, M395⟩, e393, hF⟩ := ob_s hF
  obtain ⟨g396, hF⟩ := gd_s hF
  obtain ⟨g397, hF⟩ := gd_s hF
  obtain ⟨⟨v399, M400⟩, e398, hF⟩ := ob_s hF
  rcases Decidable.em (v394 = v399) with c401 | c401
  · have hF := if_p c401 hF
    have h9 := (mn_L_law_1309 (V := V) (xs := xs) (L := L) k18 hmk18) hF
    exact ⟨by omega, by omega⟩
  · have hF := if_n c401 hF
    exact absurd (lw_01 hF) (by decide)
theorem b_L_law_439 {S' : mSh} {M' : mMm} {n' z' : Nat} (hV : mV V n0 P) (hVs : mVs V n0 P) (hs : l.stackTraces = false) (hVx : mVx n0 P) (hn0 : s.heap.size = n0) (hXs : va_X b L xs s s.heap) (hbl : b < n0) (hbd : n' - n0 ≤ 601024 ∧ z' ≤ 7293034) (X : mCx D n0 P p m c cL_law 4 s #[Value.ref b] "WindingSquareLaw" meth (some .boolean)) (k18 : mSh → mMm → Nat → Nat → Nat → Nat → Int32 → Option (Int32 × mSh × mMm × Nat × Nat)) (hmk18 : ∀ {S : mSh} {M : mMm} {n z : Nat} {x1 : Nat} {x2 : Nat} {x3 : Int32}, k18 S M n z x1 x2 x3 = some (1, S', M', n', z') → n ≤ n' ∧ z ≤ z') (hk18 : ∀ (S : mSh) (M : mMm) (n z : Nat) (x1 : Nat) (x2 : Nat) (x3 : Int32) (H : Heap) (locs : List Loc) (ls : Array Slot), n0 ≤ n → mHp D n0 S M n s H locs → lv_has ls 4 [(0, .ref b), (1, .ref x1), (2, .ref x2), (3, .int x3)] → k18 S M n z x1 x2 x3 = some (1, S', M', n', z') → W p l e room_1 s m #[Value.ref b] below meth c H locs (n - n0) (z) (lw_Z below #[Value.ref b] s) (F0 m 18 ls [])) : ∀ (S : mSh) (M : mMm) (n z : Nat) (x1 : Nat) (x2 : Nat) (x3 : Int32) (H : Heap) (locs : List Loc) (ls : Array Slot), n0 ≤ n → mHp D n0 S M n s H locs → lv_has ls 4 [(0, .ref b), (1, .ref x1), (2, .ref x2), (3, .int x3)] → fb_L_law_439 V xs L k18 S M n z x1 x2 x3 = some (1, S', M', n', z') → W p l e room_1 s m #[Value.ref b] below meth c H locs (n - n0) (z) (lw_Z below #[Value.ref b] s) (F0 m 439 ls []) := by
  have hx := X.1.1
  have hb := X.1.2.1
  have hown := X.1.2.2.2.1
  have hts := X.1.2.2.2.2
  intro S M n z x1 x2 x3 H locs ls hn hp hl hF
  have hm0 := mn_L_law_439 _ hmk18 hF
  unfold fb_L_law_439 at hF
  refine lv_aload_n hx hb dL_law_439 rfl (lv_at hl 1 rfl) ?_
  refine lv_aload_n hx hb dL_law_440 rfl (lv_at hl 0 rfl) ?_
  refine lv_iload_n hx hb dL_law_441 rfl (lv_at hl 3 rfl) ?_
  refine lv_iconst (v := 1) hx hb dL_law_442 (by decide) ?_
  refine lv_iadd hx hb dL_law_443 ?_
  obtain ⟨g391, hF⟩ := gd_s hF
  refine va_sld hx hb hXs (by rw [hn0]; exact hbl) (fun h => Nat.not_le.mpr hbl h) hp.2 g391 dL_law_444 ?_
  obtain ⟨g392, hF⟩ := gd_s hF
  obtain ⟨⟨v394, M395⟩, e393, hF⟩ := ob_s hF
  refine m_callV (As := [.int (xs (x3 + (1 : Int32)).toNatClampNeg)]) (rest := []) X hp (w_X0_end e393) q561 q562 q563 q132 q564 1 rfl ds_X0_end ⟨Nat.le_of_ble_eq_true rfl, Nat.le_of_ble_eq_true rfl⟩ 1 (T := TX0) (N := 30) rfl (by decide) g392 hl.1 rfl (Nat.le_of_ble_eq_true rfl) dL_law_445 ⟨by show _ + 0 ≤ 601024; omega, by show _ + 0 ≤ 7293034; omega⟩ (fun H locs hp => ?_)
  refine lv_aload_n hx hb dL_law_448 rfl (lv_at hl 2 rfl) ?_
  refine lv_aload_n hx hb dL_law_449 rfl (lv_at hl 0 rfl) ?_
  refine lv_iload_n hx hb dL_law_450 rfl (lv_at hl 3 rfl) ?_
  refine lv_iconst (v := 1) hx hb dL_law_451 (by decide) ?_
  refine lv_iadd hx hb dL_law_452 ?_
  obtain ⟨g396, hF⟩ := gd_s hF
  refine va_sld hx hb hXs (by rw [hn0]; exact hbl) (fun h => Nat.not_le.mpr hbl h) hp.2 g396 dL_law_453 ?_
  obtain ⟨g397, hF⟩ := gd_s hF
  obtain ⟨⟨v399, M400⟩, e398, hF⟩ := ob_s hF
  refine m_callV (As := [.int (xs (x3 + (1 : Int32)).toNatClampNeg)]) (rest := [.int v394]) X hp (w_X5_end e398) q1584 q1585 q1586 q144 q1587 1 rfl ds_X5_end ⟨Nat.le_of_ble_eq_true rfl, Nat.le_of_ble_eq_true rfl⟩ 6 (T := TX5) (N := 40) rfl (by decide) g397 hl.1 rfl (Nat.le_of_ble_eq_true rfl) dL_law_454 ⟨by show _ + 0 ≤ 601024; omega, by show _ + 0 ≤ 7293034; omega⟩ (fun H locs hp => ?_)
  refine lv_icmp_eq (tgt := 1309) hx hb dL_law_457 (by decide) (fun c401 => ?_) (fun c401 => ?_)
  · have hF := if_p c401 hF
    exact b_L_law_1309 hV hVs hs hVx hn0 hXs hbl hbd X k18 hmk18 hk18 _ _ _ _ _ _ _ _ _ _ (by omega) hp (lv_sub hl [0, 1, 2, 3] rfl) hF
  · have hF := if_n c401 hF
    refine lv_iconst (v := 0) hx hb dL_law_460 (by decide) ?_
    exact absurd (lw_01 hF) (by decide)
def fb_L_law_471 (V : Nat → Nat) (xs : Nat → Int32) (L : Nat) (k18 : mSh → mMm → Nat → Nat → Nat → Nat → Int32 → Option (Int32 × mSh × mMm × Nat × Nat)) (S : mSh) (M : mMm) (n z : Nat) (x1 : Nat) (x2 : Nat) (x3 : Int32) (y0 : Int32) : Option (Int32 × mSh × mMm × Nat × Nat) := gd (¬ ((x3 + (1 : Int32)) < 0 ∨ L ≤ (x3 + (1 : Int32)).toNatClampNeg)) (gd ((S x2).1 = 6) (ob (f_X5_text S M x2 (xs (x3 + (1 : Int32)).toNatClampNeg)) fun ⟨v388, M389⟩ => (if y0 = v388 then (fb_L_law_1309 V xs L k18 S M389 n z x1 x2 x3) else some ((0 : Int32), S, M389, n, z))))
theorem mn_L_law_471 {S' : mSh} {M' : mMm} {n' z' : Nat} (k18 : mSh → mMm → Nat → Nat → Nat → Nat → Int32 → Option (Int32 × mSh × mMm × Nat × Nat)) (hmk18 : ∀ {S : mSh} {M : mMm} {n z : Nat} {x1 : Nat} {x2 : Nat} {x3 : Int32}, k18 S M n z x1 x2 x3 = some (1, S', M', n', z') → n ≤ n' ∧ z ≤ z') : ∀ {S : mSh} {M : mMm} {n z : Nat} {x1 : Nat} {x2 : Nat} {x3 : Int32} {y0 : Int32}, fb_L_law_471 V xs L k18 S M n z x1 x2 x3 y0 = some (1, S', M', n', z') → n ≤ n' ∧ z ≤ z' := by
  intro S M n z x1 x2 x3 y0 hF
  unfold fb_L_law_471 at hF
  obtain ⟨g385, hF⟩ := gd_s hF
  obtain ⟨g386, hF⟩ := gd_s hF
  obtain ⟨⟨v388, M389⟩, e387, hF⟩ := ob_s hF
  rcases Decidable.em (y0 = v388) with c390 | c390
  · have hF := if_p c390 hF
    have h9 := (mn_L_law_1309 (V := V) (xs := xs) (L := L) k18 hmk18) hF
    exact ⟨by omega, by omega⟩
  · have hF := if_n c390 hF
    exact absurd (lw_01 hF) (by decide)
theorem b_L_law_471 {S' : mSh} {M' : mMm} {n' z' : Nat} (hV : mV V n0 P) (hVs : mVs V n0 P) (hs : l.stackTraces = false) (hVx : mVx n0 P) (hn0 : s.heap.size = n0) (hXs : va_X b L xs s s.heap) (hbl : b < n0) (hbd : n' - n0 ≤ 601024 ∧ z' ≤ 7293034) (X : mCx D n0 P p m c cL_law 4 s #[Value.ref b] "WindingSquareLaw" meth (some .boolean)) (k18 : mSh → mMm → Nat → Nat → Nat → Nat → Int32 → Option (Int32 × mSh × mMm × Nat × Nat)) (hmk18 : ∀ {S : mSh} {M : mMm} {n z : Nat} {x1 : Nat} {x2 : Nat} {x3 : Int32}, k18 S M n z x1 x2 x3 = some (1, S', M', n', z') → n ≤ n' ∧ z ≤ z') (hk18 : ∀ (S : mSh) (M : mMm) (n z : Nat) (x1 : Nat) (x2 : Nat) (x3 : Int32) (H : Heap) (locs : List Loc) (ls : Array Slot), n0 ≤ n → mHp D n0 S M n s H locs → lv_has ls 4 [(0, .ref b), (1, .ref x1), (2, .ref x2), (3, .int x3)] → k18 S M n z x1 x2 x3 = some (1, S', M', n', z') → W p l e room_1 s m #[Value.ref b] below meth c H locs (n - n0) (z) (lw_Z below #[Value.ref b] s) (F0 m 18 ls [])) : ∀ (S : mSh) (M : mMm) (n z : Nat) (x1 : Nat) (x2 : Nat) (x3 : Int32) (y0 : Int32) (H : Heap) (locs : List Loc) (ls : Array Slot), n0 ≤ n → mHp D n0 S M n s H locs → lv_has ls 4 [(0, .ref b), (1, .ref x1), (2, .ref x2), (3, .int x3)] → fb_L_law_471 V xs L k18 S M n z x1 x2 x3 y0 = some (1, S', M', n', z') → W p l e room_1 s m #[Value.ref b] below meth c H locs (n - n0) (z) (lw_Z below #[Value.ref b] s) (F0 m 471 ls [.int y0]) := by
  have hx := X.1.1
  have hb := X.1.2.1
  have hown := X.1.2.2.2.1
  have hts := X.1.2.2.2.2
  intro S M n z x1 x2 x3 y0 H locs ls hn hp hl hF
  have hm0 := mn_L_law_471 _ hmk18 hF
  unfold fb_L_law_471 at hF
  refine lv_aload_n hx hb dL_law_471 rfl (lv_at hl 2 rfl) ?_
  refine lv_aload_n hx hb dL_law_472 rfl (lv_at hl 0 rfl) ?_
  refine lv_iload_n hx hb dL_law_473 rfl (lv_at hl 3 rfl) ?_
  refine lv_iconst (v := 1) hx hb dL_law_474 (by decide) ?_
  refine lv_iadd hx hb dL_law_475 ?_
  obtain ⟨g385, hF⟩ := gd_s hF
  refine va_sld hx hb hXs (by rw [hn0]; exact hbl) (fun h => Nat.not_le.mpr hbl h) hp.2 g385 dL_law_476 ?_
  obtain ⟨g386, hF⟩ := gd_s hF
  obtain ⟨⟨v388, M389⟩, e387, hF⟩ := ob_s hF
  refine m_callV (As := [.int (xs (x3 + (1 : Int32)).toNatClampNeg)]) (rest := [.int y0]) X hp (w_X5_text e387) q1591 q1592 q1593 q144 q1594 1 rfl ds_X5_text ⟨Nat.le_of_ble_eq_true rfl, Nat.le_of_ble_eq_true rfl⟩ 6 (T := TX5) (N := 40) rfl (by decide) g386 hl.1 rfl (Nat.le_of_ble_eq_true rfl) dL_law_477 ⟨by show _ + 0 ≤ 601024; omega, by show _ + 0 ≤ 7293034; omega⟩ (fun H locs hp => ?_)
  refine lv_icmp_eq (tgt := 1309) hx hb dL_law_480 (by decide) (fun c390 => ?_) (fun c390 => ?_)
  · have hF := if_p c390 hF
    exact b_L_law_1309 hV hVs hs hVx hn0 hXs hbl hbd X k18 hmk18 hk18 _ _ _ _ _ _ _ _ _ _ (by omega) hp (lv_sub hl [0, 1, 2, 3] rfl) hF
  · have hF := if_n c390 hF
    refine lv_iconst (v := 0) hx hb dL_law_483 (by decide) ?_
    exact absurd (lw_01 hF) (by decide)
def fb_L_law_462 (V : Nat → Nat) (xs : Nat → Int32) (L : Nat) (k18 : mSh → mMm → Nat → Nat → Nat → Nat → Int32 → Option (Int32 × mSh × mMm × Nat × Nat)) (S : mSh) (M : mMm) (n z : Nat) (x1 : Nat) (x2 : Nat) (x3 : Int32) : Option (Int32 × mSh × mMm × Nat × Nat) := gd (¬ ((x3 + (1 : Int32)) < 0 ∨ L ≤ (x3 + (1 : Int32)).toNatClampNeg)) (gd ((S x1).1 = 1) (ob (f_X0_text V S M n z x1 (xs (x3 + (1 : Int32)).toNatClampNeg)) fun ⟨v380, S382, M381, n383, z384⟩ => (fb_L_law_471 V xs L k18 S382 M381 n383 z384 x1 x2 x3 v380)))
theorem mn_L_law_462 {S' : mSh} {M' : mMm} {n' z' : Nat} (k18 : mSh → mMm → Nat → Nat → Nat → Nat → Int32 → Option (Int32 × mSh × mMm × Nat × Nat)) (hmk18 : ∀ {S : mSh} {M : mMm} {n z : Nat} {x1 : Nat} {x2 : Nat} {x3 : Int32}, k18 S M n z x1 x2 x3 = some (1, S', M', n', z') → n ≤ n' ∧ z ≤ z') : ∀ {S : mSh} {M : mMm} {n z : Nat} {x1 : Nat} {x2 : Nat} {x3 : Int32}, fb_L_law_462 V xs L k18 S M n z x1 x2 x3 = some (1, S', M', n', z') → n ≤ n' ∧ z ≤ z' := by
  intro S M n z x1 x2 x3 hF
  unfold fb_L_law_462 at hF
  obtain ⟨g377, hF⟩ := gd_s hF
  obtain ⟨g378, hF⟩ := gd_s hF
  obtain ⟨⟨v380, S382, M381, n383, z384⟩, e379, hF⟩ := ob_s hF
  have hc := mn_X0_text e379
  have h9 := (mn_L_law_471 (V := V) (xs := xs) (L := L) k18 hmk18) hF
  exact ⟨by omega, by omega⟩
theorem b_L_law_462 {S' : mSh} {M' : mMm} {n' z' : Nat} (hV : mV V n0 P) (hVs : mVs V n0 P) (hs : l.stackTraces = false) (hVx : mVx n0 P) (hn0 : s.heap.size = n0) (hXs : va_X b L xs s s.heap) (hbl : b < n0) (hbd : n' - n0 ≤ 601024 ∧ z' ≤ 7293034) (X : mCx D n0 P p m c cL_law 4 s #[Value.ref b] "WindingSquareLaw" meth (some .boolean)) (k18 : mSh → mMm → Nat → Nat → Nat → Nat → Int32 → Option (Int32 × mSh × mMm × Nat × Nat)) (hmk18 : ∀ {S : mSh} {M : mMm} {n z : Nat} {x1 : Nat} {x2 : Nat} {x3 : Int32}, k18 S M n z x1 x2 x3 = some (1, S', M', n', z') → n ≤ n' ∧ z ≤ z') (hk18 : ∀ (S : mSh) (M : mMm) (n z : Nat) (x1 : Nat) (x2 : Nat) (x3 : Int32) (H : Heap) (locs : List Loc) (ls : Array Slot), n0 ≤ n → mHp D n0 S M n s H locs → lv_has ls 4 [(0, .ref b), (1, .ref x1), (2, .ref x2), (3, .int x3)] → k18 S M n z x1 x2 x3 = some (1, S', M', n', z') → W p l e room_1 s m #[Value.ref b] below meth c H locs (n - n0) (z) (lw_Z below #[Value.ref b] s) (F0 m 18 ls [])) : ∀ (S : mSh) (M : mMm) (n z : Nat) (x1 : Nat) (x2 : Nat) (x3 : Int32) (H : Heap) (locs : List Loc) (ls : Array Slot), n0 ≤ n → mHp D n0 S M n s H locs → lv_has ls 4 [(0, .ref b), (1, .ref x1), (2, .ref x2), (3, .int x3)] → fb_L_law_462 V xs L k18 S M n z x1 x2 x3 = some (1, S', M', n', z') → W p l e room_1 s m #[Value.ref b] below meth c H locs (n - n0) (z) (lw_Z below #[Value.ref b] s) (F0 m 462 ls []) := by
  have hx := X.1.1
  have hb := X.1.2.1
  have hown := X.1.2.2.2.1
  have hts := X.1.2.2.2.2
  intro S M n z x1 x2 x3 H locs ls hn hp hl hF
  have hm0 := mn_L_law_462 _ hmk18 hF
  unfold fb_L_law_462 at hF
  refine lv_aload_n hx hb dL_law_462 rfl (lv_at hl 1 rfl) ?_
  refine lv_aload_n hx hb dL_law_463 rfl (lv_at hl 0 rfl) ?_
  refine lv_iload_n hx hb dL_law_464 rfl (lv_at hl 3 rfl) ?_
  refine lv_iconst (v := 1) hx hb dL_law_465 (by decide) ?_
  refine lv_iadd hx hb dL_law_466 ?_
  obtain ⟨g377, hF⟩ := gd_s hF
  refine va_sld hx hb hXs (by rw [hn0]; exact hbl) (fun h => Nat.not_le.mpr hbl h) hp.2 g377 dL_law_467 ?_
  obtain ⟨g378, hF⟩ := gd_s hF
  obtain ⟨⟨v380, S382, M381, n383, z384⟩, e379, hF⟩ := ob_s hF
  have hc := mn_X0_text e379
  have hm := (mn_L_law_471 (V := V) (xs := xs) (L := L) k18 hmk18) hF
  refine m_callTx (rest := []) X hp (w_X0_text hV hVs hs hVx e379) q568 g378 hl.1 (Nat.le_of_ble_eq_true rfl) dL_law_468 ⟨by show _ ≤ 601024; omega, by show _ ≤ 7293034; omega⟩ ⟨Nat.le_of_ble_eq_true rfl, Nat.le_of_ble_eq_true rfl⟩ (fun H locs hp => ?_)
  refine W.widen (k := n383 - n0) (n := z384) (by omega) (by omega) ?_
  exact b_L_law_471 hV hVs hs hVx hn0 hXs hbl hbd X k18 hmk18 hk18 _ _ _ _ _ _ _ _ _ _ _ (by omega) hp (lv_sub hl [0, 1, 2, 3] rfl) hF
def fb_L_law_485 (V : Nat → Nat) (xs : Nat → Int32) (L : Nat) (k18 : mSh → mMm → Nat → Nat → Nat → Nat → Int32 → Option (Int32 × mSh × mMm × Nat × Nat)) (S : mSh) (M : mMm) (n z : Nat) (x1 : Nat) (x2 : Nat) (x3 : Int32) : Option (Int32 × mSh × mMm × Nat × Nat) := gd (¬ ((x3 + (1 : Int32)) < 0 ∨ L ≤ (x3 + (1 : Int32)).toNatClampNeg)) (gd ((S x1).1 = 1) (ob (f_X0_fault S M x1 (xs (x3 + (1 : Int32)).toNatClampNeg)) fun v371 => gd (¬ ((x3 + (1 : Int32)) < 0 ∨ L ≤ (x3 + (1 : Int32)).toNatClampNeg)) (gd ((S x2).1 = 6) (ob (f_X5_fault S M x2 (xs (x3 + (1 : Int32)).toNatClampNeg)) fun v375 => (if v371 = v375 then (fb_L_law_1309 V xs L k18 S M n z x1 x2 x3) else some ((0 : Int32), S, M, n, z))))))
theorem mn_L_law_485 {S' : mSh} {M' : mMm} {n' z' : Nat} (k18 : mSh → mMm → Nat → Nat → Nat → Nat → Int32 → Option (Int32 × mSh × mMm × Nat × Nat)) (hmk18 : ∀ {S : mSh} {M : mMm} {n z : Nat} {x1 : Nat} {x2 : Nat} {x3 : Int32}, k18 S M n z x1 x2 x3 = some (1, S', M', n', z') → n ≤ n' ∧ z ≤ z') : ∀ {S : mSh} {M : mMm} {n z : Nat} {x1 : Nat} {x2 : Nat} {x3 : Int32}, fb_L_law_485 V xs L k18 S M n z x1 x2 x3 = some (1, S', M', n', z') → n ≤ n' ∧ z ≤ z' := by
  intro S M n z x1 x2 x3 hF
  unfold fb_L_law_485 at hF
  obtain ⟨g368, hF⟩ := gd_s hF
  obtain ⟨g369, hF⟩ := gd_s hF
  obtain ⟨v371, e370, hF⟩ := ob_s hF
  obtain ⟨g372, hF⟩ := gd_s hF
  obtain ⟨g373, hF⟩ := gd_s hF
  obtain ⟨v375, e374, hF⟩ := ob_s hF
  rcases Decidable.em (v371 = v375) with c376 | c376
  · have hF := if_p c376 hF
    have h9 := (mn_L_law_1309 (V := V) (xs := xs) (L := L) k18 hmk18) hF
    exact ⟨by omega, by omega⟩
  · have hF := if_n c376 hF
    exact absurd (lw_01 hF) (by decide)
theorem b_L_law_485 {S' : mSh} {M' : mMm} {n' z' : Nat} (hV : mV V n0 P) (hVs : mVs V n0 P) (hs : l.stackTraces = false) (hVx : mVx n0 P) (hn0 : s.heap.size = n0) (hXs : va_X b L xs s s.heap) (hbl : b < n0) (hbd : n' - n0 ≤ 601024 ∧ z' ≤ 7293034) (X : mCx D n0 P p m c cL_law 4 s #[Value.ref b] "WindingSquareLaw" meth (some .boolean)) (k18 : mSh → mMm → Nat → Nat → Nat → Nat → Int32 → Option (Int32 × mSh × mMm × Nat × Nat)) (hmk18 : ∀ {S : mSh} {M : mMm} {n z : Nat} {x1 : Nat} {x2 : Nat} {x3 : Int32}, k18 S M n z x1 x2 x3 = some (1, S', M', n', z') → n ≤ n' ∧ z ≤ z') (hk18 : ∀ (S : mSh) (M : mMm) (n z : Nat) (x1 : Nat) (x2 : Nat) (x3 : Int32) (H : Heap) (locs : List Loc) (ls : Array Slot), n0 ≤ n → mHp D n0 S M n s H locs → lv_has ls 4 [(0, .ref b), (1, .ref x1), (2, .ref x2), (3, .int x3)] → k18 S M n z x1 x2 x3 = some (1, S', M', n', z') → W p l e room_1 s m #[Value.ref b] below meth c H locs (n - n0) (z) (lw_Z below #[Value.ref b] s) (F0 m 18 ls [])) : ∀ (S : mSh) (M : mMm) (n z : Nat) (x1 : Nat) (x2 : Nat) (x3 : Int32) (H : Heap) (locs : List Loc) (ls : Array Slot), n0 ≤ n → mHp D n0 S M n s H locs → lv_has ls 4 [(0, .ref b), (1, .ref x1), (2, .ref x2), (3, .int x3)] → fb_L_law_485 V xs L k18 S M n z x1 x2 x3 = some (1, S', M', n', z') → W p l e room_1 s m #[Value.ref b] below meth c H locs (n - n0) (z) (lw_Z below #[Value.ref b] s) (F0 m 485 ls []) := by
  have hx := X.1.1
  have hb := X.1.2.1
  have hown := X.1.2.2.2.1
  have hts := X.1.2.2.2.2
  intro S M n z x1 x2 x3 H locs ls hn hp hl hF
  have hm0 := mn_L_law_485 _ hmk18 hF
  unfold fb_L_law_485 at hF
  refine lv_aload_n hx hb dL_law_485 rfl (lv_at hl 1 rfl) ?_
  refine lv_aload_n hx hb dL_law_486 rfl (lv_at hl 0 rfl) ?_
  refine lv_iload_n hx hb dL_law_487 rfl (lv_at hl 3 rfl) ?_
  refine lv_iconst (v := 1) hx hb dL_law_488 (by decide) ?_
  refine lv_iadd hx hb dL_law_489 ?_
  obtain ⟨g368, hF⟩ := gd_s hF
  refine va_sld hx hb hXs (by rw [hn0]; exact hbl) (fun h => Nat.not_le.mpr hbl h) hp.2 g368 dL_law_490 ?_
  obtain ⟨g369, hF⟩ := gd_s hF
  obtain ⟨v371, e370, hF⟩ := ob_s hF
  refine m_callV (As := [.int (xs (x3 + (1 : Int32)).toNatClampNeg)]) (rest := []) X hp (w_X0_fault e370) q985 q986 q987 q132 q988 1 rfl ds_X0_fault ⟨Nat.le_of_ble_eq_true rfl, Nat.le_of_ble_eq_true rfl⟩ 1 (T := TX0) (N := 30) rfl (by decide) g369 hl.1 rfl (Nat.le_of_ble_eq_true rfl) dL_law_491 ⟨by show _ + 0 ≤ 601024; omega, by show _ + 0 ≤ 7293034; omega⟩ (fun H locs hp => ?_)
  refine lv_aload_n hx hb dL_law_494 rfl (lv_at hl 2 rfl) ?_
  refine lv_aload_n hx hb dL_law_495 rfl (lv_at hl 0 rfl) ?_
  refine lv_iload_n hx hb dL_law_496 rfl (lv_at hl 3 rfl) ?_
  refine lv_iconst (v := 1) hx hb dL_law_497 (by decide) ?_
  refine lv_iadd hx hb dL_law_498 ?_
  obtain ⟨g372, hF⟩ := gd_s hF
  refine va_sld hx hb hXs (by rw [hn0]; exact hbl) (fun h => Nat.not_le.mpr hbl h) hp.2 g372 dL_law_499 ?_
  obtain ⟨g373, hF⟩ := gd_s hF
  obtain ⟨v375, e374, hF⟩ := ob_s hF
  refine m_callV (As := [.int (xs (x3 + (1 : Int32)).toNatClampNeg)]) (rest := [.int v371]) X hp (w_X5_fault e374) q1711 q1712 q1713 q144 q1714 1 rfl ds_X5_fault ⟨Nat.le_of_ble_eq_true rfl, Nat.le_of_ble_eq_true rfl⟩ 6 (T := TX5) (N := 40) rfl (by decide) g373 hl.1 rfl (Nat.le_of_ble_eq_true rfl) dL_law_500 ⟨by show _ + 0 ≤ 601024; omega, by show _ + 0 ≤ 7293034; omega⟩ (fun H locs hp => ?_)
  refine lv_icmp_eq (tgt := 1309) hx hb dL_law_503 (by decide) (fun c376 => ?_) (fun c376 => ?_)
  · have hF := if_p c376 hF
    exact b_L_law_1309 hV hVs hs hVx hn0 hXs hbl hbd X k18 hmk18 hk18 _ _ _ _ _ _ _ _ _ _ (by omega) hp (lv_sub hl [0, 1, 2, 3] rfl) hF
  · have hF := if_n c376 hF
    refine lv_iconst (v := 0) hx hb dL_law_506 (by decide) ?_
    exact absurd (lw_01 hF) (by decide)
def fb_L_law_508 (V : Nat → Nat) (xs : Nat → Int32) (L : Nat) (k18 : mSh → mMm → Nat → Nat → Nat → Nat → Int32 → Option (Int32 × mSh × mMm × Nat × Nat)) (S : mSh) (M : mMm) (n z : Nat) (x1 : Nat) (x2 : Nat) (x3 : Int32) : Option (Int32 × mSh × mMm × Nat × Nat) := gd (¬ ((x3 + (1 : Int32)) < 0 ∨ L ≤ (x3 + (1 : Int32)).toNatClampNeg)) (gd (¬ ((x3 + (2 : Int32)) < 0 ∨ L ≤ (x3 + (2 : Int32)).toNatClampNeg)) (gd ((S x1).1 = 1) (ob (f_X0_of S M x1 (xs (x3 + (1 : Int32)).toNatClampNeg) (xs (x3 + (2 : Int32)).toNatClampNeg)) fun ⟨v359, M360⟩ => gd (¬ ((x3 + (1 : Int32)) < 0 ∨ L ≤ (x3 + (1 : Int32)).toNatClampNeg)) (gd (¬ ((x3 + (2 : Int32)) < 0 ∨ L ≤ (x3 + (2 : Int32)).toNatClampNeg)) (gd ((S x2).1 = 6) (ob (f_X5_of S M360 x2 (xs (x3 + (1 : Int32)).toNatClampNeg) (xs (x3 + (2 : Int32)).toNatClampNeg)) fun ⟨v365, M366⟩ => (if v359 = v365 then (fb_L_law_1309 V xs L k18 S M366 n z x1 x2 x3) else some ((0 : Int32), S, M366, n, z))))))))
theorem mn_L_law_508 {S' : mSh} {M' : mMm} {n' z' : Nat} (k18 : mSh → mMm → Nat → Nat → Nat → Nat → Int32 → Option (Int32 × mSh × mMm × Nat × Nat)) (hmk18 : ∀ {S : mSh} {M : mMm} {n z : Nat} {x1 : Nat} {x2 : Nat} {x3 : Int32}, k18 S M n z x1 x2 x3 = some (1, S', M', n', z') → n ≤ n' ∧ z ≤ z') : ∀ {S : mSh} {M : mMm} {n z : Nat} {x1 : Nat} {x2 : Nat} {x3 : Int32}, fb_L_law_508 V xs L k18 S M n z x1 x2 x3 = some (1, S', M', n', z') → n ≤ n' ∧ z ≤ z' := by
  intro S M n z x1 x2 x3 hF
  unfold fb_L_law_508 at hF
  obtain ⟨g355, hF⟩ := gd_s hF
  obtain ⟨g356, hF⟩ := gd_s hF
  obtain ⟨g357, hF⟩ := gd_s hF
  obtain ⟨⟨v359, M360⟩, e358, hF⟩ := ob_s hF
  obtain ⟨g361, hF⟩ := gd_s hF
  obtain ⟨g362, hF⟩ := gd_s hF
  obtain ⟨g363, hF⟩ := gd_s hF
  obtain ⟨⟨v365, M366⟩, e364, hF⟩ := ob_s hF
  rcases Decidable.em (v359 = v365) with c367 | c367
  · have hF := if_p c367 hF
    have h9 := (mn_L_law_1309 (V := V) (xs := xs) (L := L) k18 hmk18) hF
    exact ⟨by omega, by omega⟩
  · have hF := if_n c367 hF
    exact absurd (lw_01 hF) (by decide)
theorem b_L_law_508 {S' : mSh} {M' : mMm} {n' z' : Nat} (hV : mV V n0 P) (hVs : mVs V n0 P) (hs : l.stackTraces = false) (hVx : mVx n0 P) (hn0 : s.heap.size = n0) (hXs : va_X b L xs s s.heap) (hbl : b < n0) (hbd : n' - n0 ≤ 601024 ∧ z' ≤ 7293034) (X : mCx D n0 P p m c cL_law 4 s #[Value.ref b] "WindingSquareLaw" meth (some .boolean)) (k18 : mSh → mMm → Nat → Nat → Nat → Nat → Int32 → Option (Int32 × mSh × mMm × Nat × Nat)) (hmk18 : ∀ {S : mSh} {M : mMm} {n z : Nat} {x1 : Nat} {x2 : Nat} {x3 : Int32}, k18 S M n z x1 x2 x3 = some (1, S', M', n', z') → n ≤ n' ∧ z ≤ z') (hk18 : ∀ (S : mSh) (M : mMm) (n z : Nat) (x1 : Nat) (x2 : Nat) (x3 : Int32) (H : Heap) (locs : List Loc) (ls : Array Slot), n0 ≤ n → mHp D n0 S M n s H locs → lv_has ls 4 [(0, .ref b), (1, .ref x1), (2, .ref x2), (3, .int x3)] → k18 S M n z x1 x2 x3 = some (1, S', M', n', z') → W p l e room_1 s m #[Value.ref b] below meth c H locs (n - n0) (z) (lw_Z below #[Value.ref b] s) (F0 m 18 ls [])) : ∀ (S : mSh) (M : mMm) (n z : Nat) (x1 : Nat) (x2 : Nat) (x3 : Int32) (H : Heap) (locs : List Loc) (ls : Array Slot), n0 ≤ n → mHp D n0 S M n s H locs → lv_has ls 4 [(0, .ref b), (1, .ref x1), (2, .ref x2), (3, .int x3)] → fb_L_law_508 V xs L k18 S M n z x1 x2 x3 = some (1, S', M', n', z') → W p l e room_1 s m #[Value.ref b] below meth c H locs (n - n0) (z) (lw_Z below #[Value.ref b] s) (F0 m 508 ls []) := by
  have hx := X.1.1
  have hb := X.1.2.1
  have hown := X.1.2.2.2.1
  have hts := X.1.2.2.2.2
  intro S M n z x1 x2 x3 H locs ls hn hp hl hF
  have hm0 := mn_L_law_508 _ hmk18 hF
  unfold fb_L_law_508 at hF
  refine lv_aload_n hx hb dL_law_508 rfl (lv_at hl 1 rfl) ?_
  refine lv_aload_n hx hb dL_law_509 rfl (lv_at hl 0 rfl) ?_
  refine lv_iload_n hx hb dL_law_510 rfl (lv_at hl 3 rfl) ?_
  refine lv_iconst (v := 1) hx hb dL_law_511 (by decide) ?_
  refine lv_iadd hx hb dL_law_512 ?_
  obtain ⟨g355, hF⟩ := gd_s hF
  refine va_sld hx hb hXs (by rw [hn0]; exact hbl) (fun h => Nat.not_le.mpr hbl h) hp.2 g355 dL_law_513 ?_
  refine lv_aload_n hx hb dL_law_514 rfl (lv_at hl 0 rfl) ?_
  refine lv_iload_n hx hb dL_law_515 rfl (lv_at hl 3 rfl) ?_
  refine lv_iconst (v := 2) hx hb dL_law_516 (by decide) ?_
  refine lv_iadd hx hb dL_law_517 ?_
  obtain ⟨g356, hF⟩ := gd_s hF
  refine va_sld hx hb hXs (by rw [hn0]; exact hbl) (fun h => Nat.not_le.mpr hbl h) hp.2 g356 dL_law_518 ?_
  obtain ⟨g357, hF⟩ := gd_s hF
  obtain ⟨⟨v359, M360⟩, e358, hF⟩ := ob_s hF
  refine m_callV (As := [.int (xs (x3 + (1 : Int32)).toNatClampNeg), .int (xs (x3 + (2 : Int32)).toNatClampNeg)]) (rest := []) X hp (w_X0_of e358) q1190 q1191 q1192 q132 q1193 2 rfl ds_X0_of ⟨Nat.le_of_ble_eq_true rfl, Nat.le_of_ble_eq_true rfl⟩ 1 (T := TX0) (N := 30) rfl (by decide) g357 hl.1 rfl (Nat.le_of_ble_eq_true rfl) dL_law_519 ⟨by show _ + 0 ≤ 601024; omega, by show _ + 0 ≤ 7293034; omega⟩ (fun H locs hp => ?_)
  refine lv_aload_n hx hb dL_law_522 rfl (lv_at hl 2 rfl) ?_
  refine lv_aload_n hx hb dL_law_523 rfl (lv_at hl 0 rfl) ?_
  refine lv_iload_n hx hb dL_law_524 rfl (lv_at hl 3 rfl) ?_
  refine lv_iconst (v := 1) hx hb dL_law_525 (by decide) ?_
  refine lv_iadd hx hb dL_law_526 ?_
  obtain ⟨g361, hF⟩ := gd_s hF
  refine va_sld hx hb hXs (by rw [hn0]; exact hbl) (fun h => Nat.not_le.mpr hbl h) hp.2 g361 dL_law_527 ?_
  refine lv_aload_n hx hb dL_law_528 rfl (lv_at hl 0 rfl) ?_
  refine lv_iload_n hx hb dL_law_529 rfl (lv_at hl 3 rfl) ?_
  refine lv_iconst (v := 2) hx hb dL_law_530 (by decide) ?_
  refine lv_iadd hx hb dL_law_531 ?_
  obtain ⟨g362, hF⟩ := gd_s hF
  refine va_sld hx hb hXs (by rw [hn0]; exact hbl) (fun h => Nat.not_le.mpr hbl h) hp.2 g362 dL_law_532 ?_
  obtain ⟨g363, hF⟩ := gd_s hF
  obtain ⟨⟨v365, M366⟩, e364, hF⟩ := ob_s hF
  refine m_callV (As := [.int (xs (x3 + (1 : Int32)).toNatClampNeg), .int (xs (x3 + (2 : Int32)).toNatClampNeg)]) (rest := [.int v359]) X hp (w_X5_of e364) q1867 q1868 q1869 q144 q1870 2 rfl ds_X5_of ⟨Nat.le_of_ble_eq_true rfl, Nat.le_of_ble_eq_true rfl⟩ 6 (T := TX5) (N := 40) rfl (by decide) g363 hl.1 rfl (Nat.le_of_ble_eq_true rfl) dL_law_533 ⟨by show _ + 0 ≤ 601024; omega, by show _ + 0 ≤ 7293034; omega⟩ (fun H locs hp => ?_)
  refine lv_icmp_eq (tgt := 1309) hx hb dL_law_536 (by decide) (fun c367 => ?_) (fun c367 => ?_)
  · have hF := if_p c367 hF
    exact b_L_law_1309 hV hVs hs hVx hn0 hXs hbl hbd X k18 hmk18 hk18 _ _ _ _ _ _ _ _ _ _ (by omega) hp (lv_sub hl [0, 1, 2, 3] rfl) hF
  · have hF := if_n c367 hF
    refine lv_iconst (v := 0) hx hb dL_law_539 (by decide) ?_
    exact absurd (lw_01 hF) (by decide)
def fb_L_law_541 (V : Nat → Nat) (xs : Nat → Int32) (L : Nat) (k18 : mSh → mMm → Nat → Nat → Nat → Nat → Int32 → Option (Int32 × mSh × mMm × Nat × Nat)) (S : mSh) (M : mMm) (n z : Nat) (x1 : Nat) (x2 : Nat) (x3 : Int32) : Option (Int32 × mSh × mMm × Nat × Nat) := gd (¬ ((x3 + (1 : Int32)) < 0 ∨ L ≤ (x3 + (1 : Int32)).toNatClampNeg)) (gd (¬ ((x3 + (2 : Int32)) < 0 ∨ L ≤ (x3 + (2 : Int32)).toNatClampNeg)) (gd (¬ ((x3 + (3 : Int32)) < 0 ∨ L ≤ (x3 + (3 : Int32)).toNatClampNeg)) (gd ((S x1).1 = 1) (ob (f_X0_cell S M x1 (xs (x3 + (1 : Int32)).toNatClampNeg) (xs (x3 + (2 : Int32)).toNatClampNeg) (xs (x3 + (3 : Int32)).toNatClampNeg)) fun v346 => gd (¬ ((x3 + (1 : Int32)) < 0 ∨ L ≤ (x3 + (1 : Int32)).toNatClampNeg)) (gd (¬ ((x3 + (2 : Int32)) < 0 ∨ L ≤ (x3 + (2 : Int32)).toNatClampNeg)) (gd (¬ ((x3 + (3 : Int32)) < 0 ∨ L ≤ (x3 + (3 : Int32)).toNatClampNeg)) (gd ((S x2).1 = 6) (ob (f_X5_cell S M x2 (xs (x3 + (1 : Int32)).toNatClampNeg) (xs (x3 + (2 : Int32)).toNatClampNeg) (xs (x3 + (3 : Int32)).toNatClampNeg)) fun ⟨v352, M353⟩ => (if v346 = v352 then (fb_L_law_1309 V xs L k18 S M353 n z x1 x2 x3) else some ((0 : Int32), S, M353, n, z))))))))))
theorem mn_L_law_541 {S' : mSh} {M' : mMm} {n' z' : Nat} (k18 : mSh → mMm → Nat → Nat → Nat → Nat → Int32 → Option (Int32 × mSh × mMm × Nat × Nat)) (hmk18 : ∀ {S : mSh} {M : mMm} {n z : Nat} {x1 : Nat} {x2 : Nat} {x3 : Int32}, k18 S M n z x1 x2 x3 = some (1, S', M', n', z') → n ≤ n' ∧ z ≤ z') : ∀ {S : mSh} {M : mMm} {n z : Nat} {x1 : Nat} {x2 : Nat} {x3 : Int32}, fb_L_law_541 V xs L k18 S M n z x1 x2 x3 = some (1, S', M', n', z') → n ≤ n' ∧ z ≤ z' := by
  intro S M n z x1 x2 x3 hF
  unfold fb_L_law_541 at hF
  obtain ⟨g341, hF⟩ := gd_s hF
  obtain ⟨g342, hF⟩ := gd_s hF
  obtain ⟨g343, hF⟩ := gd_s hF
  obtain ⟨g344, hF⟩ := gd_s hF
  obtain ⟨v346, e345, hF⟩ := ob_s hF
  obtain ⟨g347, hF⟩ := gd_s hF
  obtain ⟨g348, hF⟩ := gd_s hF
  obtain ⟨g349, hF⟩ := gd_s hF
  obtain ⟨g350, hF⟩ := gd_s hF
  obtain ⟨⟨v352, M353⟩, e351, hF⟩ := ob_s hF
  rcases Decidable.em (v346 = v352) with c354 | c354
  · have hF := if_p c354 hF
    have h9 := (mn_L_law_1309 (V := V) (xs := xs) (L := L) k18 hmk18) hF
    exact ⟨by omega, by omega⟩
  · have hF := if_n c354 hF
    exact absurd (lw_01 hF) (by decide)
theorem b_L_law_541 {S' : mSh} {M' : mMm} {n' z' : Nat} (hV : mV V n0 P) (hVs : mVs V n0 P) (hs : l.stackTraces = false) (hVx : mVx n0 P) (hn0 : s.heap.size = n0) (hXs : va_X b L xs s s.heap) (hbl : b < n0) (hbd : n' - n0 ≤ 601024 ∧ z' ≤ 7293034) (X : mCx D n0 P p m c cL_law 4 s #[Value.ref b] "WindingSquareLaw" meth (some .boolean)) (k18 : mSh → mMm → Nat → Nat → Nat → Nat → Int32 → Option (Int32 × mSh × mMm × Nat × Nat)) (hmk18 : ∀ {S : mSh} {M : mMm} {n z : Nat} {x1 : Nat} {x2 : Nat} {x3 : Int32}, k18 S M n z x1 x2 x3 = some (1, S', M', n', z') → n ≤ n' ∧ z ≤ z') (hk18 : ∀ (S : mSh) (M : mMm) (n z : Nat) (x1 : Nat) (x2 : Nat) (x3 : Int32) (H : Heap) (locs : List Loc) (ls : Array Slot), n0 ≤ n → mHp D n0 S M n s H locs → lv_has ls 4 [(0, .ref b), (1, .ref x1), (2, .ref x2), (3, .int x3)] → k18 S M n z x1 x2 x3 = some (1, S', M', n', z') → W p l e room_1 s m #[Value.ref b] below meth c H locs (n - n0) (z) (lw_Z below #[Value.ref b] s) (F0 m 18 ls [])) : ∀ (S : mSh) (M : mMm) (n z : Nat) (x1 : Nat) (x2 : Nat) (x3 : Int32) (H : Heap) (locs : List Loc) (ls : Array Slot), n0 ≤ n → mHp D n0 S M n s H locs → lv_has ls 4 [(0, .ref b), (1, .ref x1), (2, .ref x2), (3, .int x3)] → fb_L_law_541 V xs L k18 S M n z x1 x2 x3 = some (1, S', M', n', z') → W p l e room_1 s m #[Value.ref b] below meth c H locs (n - n0) (z) (lw_Z below #[Value.ref b] s) (F0 m 541 ls []) := by
  have hx := X.1.1
  have hb := X.1.2.1
  have hown := X.1.2.2.2.1
  have hts := X.1.2.2.2.2
  intro S M n z x1 x2 x3 H locs ls hn hp hl hF
  have hm0 := mn_L_law_541 _ hmk18 hF
  unfold fb_L_law_541 at hF
  refine lv_aload_n hx hb dL_law_541 rfl (lv_at hl 1 rfl) ?_
  refine lv_aload_n hx hb dL_law_542 rfl (lv_at hl 0 rfl) ?_
  refine lv_iload_n hx hb dL_law_543 rfl (lv_at hl 3 rfl) ?_
  refine lv_iconst (v := 1) hx hb dL_law_544 (by decide) ?_
  refine lv_iadd hx hb dL_law_545 ?_
  obtain ⟨g341, hF⟩ := gd_s hF
  refine va_sld hx hb hXs (by rw [hn0]; exact hbl) (fun h => Nat.not_le.mpr hbl h) hp.2 g341 dL_law_546 ?_
  refine lv_aload_n hx hb dL_law_547 rfl (lv_at hl 0 rfl) ?_
  refine lv_iload_n hx hb dL_law_548 rfl (lv_at hl 3 rfl) ?_
  refine lv_iconst (v := 2) hx hb dL_law_549 (by decide) ?_
  refine lv_iadd hx hb dL_law_550 ?_
  obtain ⟨g342, hF⟩ := gd_s hF
  refine va_sld hx hb hXs (by rw [hn0]; exact hbl) (fun h => Nat.not_le.mpr hbl h) hp.2 g342 dL_law_551 ?_
  refine lv_aload_n hx hb dL_law_552 rfl (lv_at hl 0 rfl) ?_
  refine lv_iload_n hx hb dL_law_553 rfl (lv_at hl 3 rfl) ?_
  refine lv_iconst (v := 3) hx hb dL_law_554 (by decide) ?_
  refine lv_iadd hx hb dL_law_555 ?_
  obtain ⟨g343, hF⟩ := gd_s hF
  refine va_sld hx hb hXs (by rw [hn0]; exact hbl) (fun h => Nat.not_le.mpr hbl h) hp.2 g343 dL_law_556 ?_
  obtain ⟨g344, hF⟩ := gd_s hF
  obtain ⟨v346, e345, hF⟩ := ob_s hF
  refine m_callV (As := [.int (xs (x3 + (1 : Int32)).toNatClampNeg), .int (xs (x3 + (2 : Int32)).toNatClampNeg), .int (xs (x3 + (3 : Int32)).toNatClampNeg)]) (rest := []) X hp (w_X0_cell e345) q1197 q1198 q1199 q132 q1200 3 rfl ds_X0_cell ⟨Nat.le_of_ble_eq_true rfl, Nat.le_of_ble_eq_true rfl⟩ 1 (T := TX0) (N := 30) rfl (by decide) g344 hl.1 rfl (Nat.le_of_ble_eq_true rfl) dL_law_557 ⟨by show _ + 0 ≤ 601024; omega, by show _ + 0 ≤ 7293034; omega⟩ (fun H locs hp => ?_)
  refine lv_aload_n hx hb dL_law_560 rfl (lv_at hl 2 rfl) ?_
  refine lv_aload_n hx hb dL_law_561 rfl (lv_at hl 0 rfl) ?_
  refine lv_iload_n hx hb dL_law_562 rfl (lv_at hl 3 rfl) ?_
  refine lv_iconst (v := 1) hx hb dL_law_563 (by decide) ?_
  refine lv_iadd hx hb dL_law_564 ?_
  obtain ⟨g347, hF⟩ := gd_s hF
  refine va_sld hx hb hXs (by rw [hn0]; exact hbl) (fun h => Nat.not_le.mpr hbl h) hp.2 g347 dL_law_565 ?_
  refine lv_aload_n hx hb dL_law_566 rfl (lv_at hl 0 rfl) ?_
  refine lv_iload_n hx hb dL_law_567 rfl (lv_at hl 3 rfl) ?_
  refine lv_iconst (v := 2) hx hb dL_law_568 (by decide) ?_
  refine lv_iadd hx hb dL_law_569 ?_
  obtain ⟨g348, hF⟩ := gd_s hF
  refine va_sld hx hb hXs (by rw [hn0]; exact hbl) (fun h => Nat.not_le.mpr hbl h) hp.2 g348 dL_law_570 ?_
  refine lv_aload_n hx hb dL_law_571 rfl (lv_at hl 0 rfl) ?_
  refine lv_iload_n hx hb dL_law_572 rfl (lv_at hl 3 rfl) ?_
  refine lv_iconst (v := 3) hx hb dL_law_573 (by decide) ?_
  refine lv_iadd hx hb dL_law_574 ?_
  obtain ⟨g349, hF⟩ := gd_s hF
  refine va_sld hx hb hXs (by rw [hn0]; exact hbl) (fun h => Nat.not_le.mpr hbl h) hp.2 g349 dL_law_575 ?_
  obtain ⟨g350, hF⟩ := gd_s hF
  obtain ⟨⟨v352, M353⟩, e351, hF⟩ := ob_s hF
  refine m_callV (As := [.int (xs (x3 + (1 : Int32)).toNatClampNeg), .int (xs (x3 + (2 : Int32)).toNatClampNeg), .int (xs (x3 + (3 : Int32)).toNatClampNeg)]) (rest := [.int v346]) X hp (w_X5_cell e351) q1875 q1876 q1877 q144 q1878 3 rfl ds_X5_cell ⟨Nat.le_of_ble_eq_true rfl, Nat.le_of_ble_eq_true rfl⟩ 6 (T := TX5) (N := 40) rfl (by decide) g350 hl.1 rfl (Nat.le_of_ble_eq_true rfl) dL_law_576 ⟨by show _ + 0 ≤ 601024; omega, by show _ + 0 ≤ 7293034; omega⟩ (fun H locs hp => ?_)
  refine lv_icmp_eq (tgt := 1309) hx hb dL_law_579 (by decide) (fun c354 => ?_) (fun c354 => ?_)
  · have hF := if_p c354 hF
    exact b_L_law_1309 hV hVs hs hVx hn0 hXs hbl hbd X k18 hmk18 hk18 _ _ _ _ _ _ _ _ _ _ (by omega) hp (lv_sub hl [0, 1, 2, 3] rfl) hF
  · have hF := if_n c354 hF
    refine lv_iconst (v := 0) hx hb dL_law_582 (by decide) ?_
    exact absurd (lw_01 hF) (by decide)
def fb_L_law_584 (V : Nat → Nat) (xs : Nat → Int32) (L : Nat) (k18 : mSh → mMm → Nat → Nat → Nat → Nat → Int32 → Option (Int32 × mSh × mMm × Nat × Nat)) (S : mSh) (M : mMm) (n z : Nat) (x1 : Nat) (x2 : Nat) (x3 : Int32) : Option (Int32 × mSh × mMm × Nat × Nat) := gd (¬ ((x3 + (1 : Int32)) < 0 ∨ L ≤ (x3 + (1 : Int32)).toNatClampNeg)) (gd (¬ ((x3 + (2 : Int32)) < 0 ∨ L ≤ (x3 + (2 : Int32)).toNatClampNeg)) (gd ((S x1).1 = 1) (ob (f_X0_book S M x1 (xs (x3 + (1 : Int32)).toNatClampNeg) (xs (x3 + (2 : Int32)).toNatClampNeg)) fun v334 => gd (¬ ((x3 + (1 : Int32)) < 0 ∨ L ≤ (x3 + (1 : Int32)).toNatClampNeg)) (gd (¬ ((x3 + (2 : Int32)) < 0 ∨ L ≤ (x3 + (2 : Int32)).toNatClampNeg)) (gd ((S x2).1 = 6) (ob (f_X5_book S M x2 (xs (x3 + (1 : Int32)).toNatClampNeg) (xs (x3 + (2 : Int32)).toNatClampNeg)) fun v339 => (if v334 = v339 then (fb_L_law_1309 V xs L k18 S M n z x1 x2 x3) else some ((0 : Int32), S, M, n, z))))))))
theorem mn_L_law_584 {S' : mSh} {M' : mMm} {n' z' : Nat} (k18 : mSh → mMm → Nat → Nat → Nat → Nat → Int32 → Option (Int32 × mSh × mMm × Nat × Nat)) (hmk18 : ∀ {S : mSh} {M : mMm} {n z : Nat} {x1 : Nat} {x2 : Nat} {x3 : Int32}, k18 S M n z x1 x2 x3 = some (1, S', M', n', z') → n ≤ n' ∧ z ≤ z') : ∀ {S : mSh} {M : mMm} {n z : Nat} {x1 : Nat} {x2 : Nat} {x3 : Int32}, fb_L_law_584 V xs L k18 S M n z x1 x2 x3 = some (1, S', M', n', z') → n ≤ n' ∧ z ≤ z' := by
  intro S M n z x1 x2 x3 hF
  unfold fb_L_law_584 at hF
  obtain ⟨g330, hF⟩ := gd_s hF
  obtain ⟨g331, hF⟩ := gd_s hF
  obtain ⟨g332, hF⟩ := gd_s hF
  obtain ⟨v334, e333, hF⟩ := ob_s hF
  obtain ⟨g335, hF⟩ := gd_s hF
  obtain ⟨g336, hF⟩ := gd_s hF
  obtain ⟨g337, hF⟩ := gd_s hF
  obtain ⟨v339, e338, hF⟩ := ob_s hF
  rcases Decidable.em (v334 = v339) with c340 | c340
  · have hF := if_p c340 hF
    have h9 := (mn_L_law_1309 (V := V) (xs := xs) (L := L) k18 hmk18) hF
    exact ⟨by omega, by omega⟩
  · have hF := if_n c340 hF
    exact absurd (lw_01 hF) (by decide)
theorem b_L_law_584 {S' : mSh} {M' : mMm} {n' z' : Nat} (hV : mV V n0 P) (hVs : mVs V n0 P) (hs : l.stackTraces = false) (hVx : mVx n0 P) (hn0 : s.heap.size = n0) (hXs : va_X b L xs s s.heap) (hbl : b < n0) (hbd : n' - n0 ≤ 601024 ∧ z' ≤ 7293034) (X : mCx D n0 P p m c cL_law 4 s #[Value.ref b] "WindingSquareLaw" meth (some .boolean)) (k18 : mSh → mMm → Nat → Nat → Nat → Nat → Int32 → Option (Int32 × mSh × mMm × Nat × Nat)) (hmk18 : ∀ {S : mSh} {M : mMm} {n z : Nat} {x1 : Nat} {x2 : Nat} {x3 : Int32}, k18 S M n z x1 x2 x3 = some (1, S', M', n', z') → n ≤ n' ∧ z ≤ z') (hk18 : ∀ (S : mSh) (M : mMm) (n z : Nat) (x1 : Nat) (x2 : Nat) (x3 : Int32) (H : Heap) (locs : List Loc) (ls : Array Slot), n0 ≤ n → mHp D n0 S M n s H locs → lv_has ls 4 [(0, .ref b), (1, .ref x1), (2, .ref x2), (3, .int x3)] → k18 S M n z x1 x2 x3 = some (1, S', M', n', z') → W p l e room_1 s m #[Value.ref b] below meth c H locs (n - n0) (z) (lw_Z below #[Value.ref b] s) (F0 m 18 ls [])) : ∀ (S : mSh) (M : mMm) (n z : Nat) (x1 : Nat) (x2 : Nat) (x3 : Int32) (H : Heap) (locs : List Loc) (ls : Array Slot), n0 ≤ n → mHp D n0 S M n s H locs → lv_has ls 4 [(0, .ref b), (1, .ref x1), (2, .ref x2), (3, .int x3)] → fb_L_law_584 V xs L k18 S M n z x1 x2 x3 = some (1, S', M', n', z') → W p l e room_1 s m #[Value.ref b] below meth c H locs (n - n0) (z) (lw_Z below #[Value.ref b] s) (F0 m 584 ls []) := by
  have hx := X.1.1
  have hb := X.1.2.1
  have hown := X.1.2.2.2.1
  have hts := X.1.2.2.2.2
  intro S M n z x1 x2 x3 H locs ls hn hp hl hF
  have hm0 := mn_L_law_584 _ hmk18 hF
  unfold fb_L_law_584 at hF
  refine lv_aload_n hx hb dL_law_584 rfl (lv_at hl 1 rfl) ?_
  refine lv_aload_n hx hb dL_law_585 rfl (lv_at hl 0 rfl) ?_
  refine lv_iload_n hx hb dL_law_586 rfl (lv_at hl 3 rfl) ?_
  refine lv_iconst (v := 1) hx hb dL_law_587 (by decide) ?_
  refine lv_iadd hx hb dL_law_588 ?_
  obtain ⟨g330, hF⟩ := gd_s hF
  refine va_sld hx hb hXs (by rw [hn0]; exact hbl) (fun h => Nat.not_le.mpr hbl h) hp.2 g330 dL_law_589 ?_
  refine lv_aload_n hx hb dL_law_590 rfl (lv_at hl 0 rfl) ?_
  refine lv_iload_n hx hb dL_law_591 rfl (lv_at hl 3 rfl) ?_
  refine lv_iconst (v := 2) hx hb dL_law_592 (by decide) ?_
  refine lv_iadd hx hb dL_law_593 ?_
  obtain ⟨g331, hF⟩ := gd_s hF
  refine va_sld hx hb hXs (by rw [hn0]; exact hbl) (fun h => Nat.not_le.mpr hbl h) hp.2 g331 dL_law_594 ?_
  obtain ⟨g332, hF⟩ := gd_s hF
  obtain ⟨v334, e333, hF⟩ := ob_s hF
  refine m_callV (As := [.int (xs (x3 + (1 : Int32)).toNatClampNeg), .int (xs (x3 + (2 : Int32)).toNatClampNeg)]) (rest := []) X hp (w_X0_book e333) q1201 q1202 q1203 q132 q1204 2 rfl ds_X0_book ⟨Nat.le_of_ble_eq_true rfl, Nat.le_of_ble_eq_true rfl⟩ 1 (T := TX0) (N := 30) rfl (by decide) g332 hl.1 rfl (Nat.le_of_ble_eq_true rfl) dL_law_595 ⟨by show _ + 0 ≤ 601024; omega, by show _ + 0 ≤ 7293034; omega⟩ (fun H locs hp => ?_)
  refine lv_aload_n hx hb dL_law_598 rfl (lv_at hl 2 rfl) ?_
  refine lv_aload_n hx hb dL_law_599 rfl (lv_at hl 0 rfl) ?_
  refine lv_iload_n hx hb dL_law_600 rfl (lv_at hl 3 rfl) ?_
  refine lv_iconst (v := 1) hx hb dL_law_601 (by decide) ?_
  refine lv_iadd hx hb dL_law_602 ?_
  obtain ⟨g335, hF⟩ := gd_s hF
  refine va_sld hx hb hXs (by rw [hn0]; exact hbl) (fun h => Nat.not_le.mpr hbl h) hp.2 g335 dL_law_603 ?_
  refine lv_aload_n hx hb dL_law_604 rfl (lv_at hl 0 rfl) ?_
  refine lv_iload_n hx hb dL_law_605 rfl (lv_at hl 3 rfl) ?_
  refine lv_iconst (v := 2) hx hb dL_law_606 (by decide) ?_
  refine lv_iadd hx hb dL_law_607 ?_
  obtain ⟨g336, hF⟩ := gd_s hF
  refine va_sld hx hb hXs (by rw [hn0]; exact hbl) (fun h => Nat.not_le.mpr hbl h) hp.2 g336 dL_law_608 ?_
  obtain ⟨g337, hF⟩ := gd_s hF
  obtain ⟨v339, e338, hF⟩ := ob_s hF
  refine m_callV (As := [.int (xs (x3 + (1 : Int32)).toNatClampNeg), .int (xs (x3 + (2 : Int32)).toNatClampNeg)]) (rest := [.int v334]) X hp (w_X5_book e338) q1879 q1880 q1881 q144 q1882 2 rfl ds_X5_book ⟨Nat.le_of_ble_eq_true rfl, Nat.le_of_ble_eq_true rfl⟩ 6 (T := TX5) (N := 40) rfl (by decide) g337 hl.1 rfl (Nat.le_of_ble_eq_true rfl) dL_law_609 ⟨by show _ + 0 ≤ 601024; omega, by show _ + 0 ≤ 7293034; omega⟩ (fun H locs hp => ?_)
  refine lv_icmp_eq (tgt := 1309) hx hb dL_law_612 (by decide) (fun c340 => ?_) (fun c340 => ?_)
  · have hF := if_p c340 hF
    exact b_L_law_1309 hV hVs hs hVx hn0 hXs hbl hbd X k18 hmk18 hk18 _ _ _ _ _ _ _ _ _ _ (by omega) hp (lv_sub hl [0, 1, 2, 3] rfl) hF
  · have hF := if_n c340 hF
    refine lv_iconst (v := 0) hx hb dL_law_615 (by decide) ?_
    exact absurd (lw_01 hF) (by decide)
def fb_L_law_617 (V : Nat → Nat) (xs : Nat → Int32) (L : Nat) (k18 : mSh → mMm → Nat → Nat → Nat → Nat → Int32 → Option (Int32 × mSh × mMm × Nat × Nat)) (S : mSh) (M : mMm) (n z : Nat) (x1 : Nat) (x2 : Nat) (x3 : Int32) : Option (Int32 × mSh × mMm × Nat × Nat) := gd (¬ ((x3 + (1 : Int32)) < 0 ∨ L ≤ (x3 + (1 : Int32)).toNatClampNeg)) (gd (¬ ((x3 + (2 : Int32)) < 0 ∨ L ≤ (x3 + (2 : Int32)).toNatClampNeg)) (gd ((S x1).1 = 1) (ob (f_X0_goes S M x1 (xs (x3 + (1 : Int32)).toNatClampNeg) (xs (x3 + (2 : Int32)).toNatClampNeg)) fun ⟨v321, M322⟩ => gd (¬ ((x3 + (1 : Int32)) < 0 ∨ L ≤ (x3 + (1 : Int32)).toNatClampNeg)) (gd (¬ ((x3 + (2 : Int32)) < 0 ∨ L ≤ (x3 + (2 : Int32)).toNatClampNeg)) (gd ((S x2).1 = 6) (ob (f_X5_goes S M322 x2 (xs (x3 + (1 : Int32)).toNatClampNeg) (xs (x3 + (2 : Int32)).toNatClampNeg)) fun ⟨v327, M328⟩ => (if v321 = v327 then (fb_L_law_1309 V xs L k18 S M328 n z x1 x2 x3) else some ((0 : Int32), S, M328, n, z))))))))
theorem mn_L_law_617 {S' : mSh} {M' : mMm} {n' z' : Nat} (k18 : mSh → mMm → Nat → Nat → Nat → Nat → Int32 → Option (Int32 × mSh × mMm × Nat × Nat)) (hmk18 : ∀ {S : mSh} {M : mMm} {n z : Nat} {x1 : Nat} {x2 : Nat} {x3 : Int32}, k18 S M n z x1 x2 x3 = some (1, S', M', n', z') → n ≤ n' ∧ z ≤ z') : ∀ {S : mSh} {M : mMm} {n z : Nat} {x1 : Nat} {x2 : Nat} {x3 : Int32}, fb_L_law_617 V xs L k18 S M n z x1 x2 x3 = some (1, S', M', n', z') → n ≤ n' ∧ z ≤ z' := by
  intro S M n z x1 x2 x3 hF
  unfold fb_L_law_617 at hF
  obtain ⟨g317, hF⟩ := gd_s hF
  obtain ⟨g318, hF⟩ := gd_s hF
  obtain ⟨g319, hF⟩ := gd_s hF
  obtain ⟨⟨v321, M322⟩, e320, hF⟩ := ob_s hF
  obtain ⟨g323, hF⟩ := gd_s hF
  obtain ⟨g324, hF⟩ := gd_s hF
  obtain ⟨g325, hF⟩ := gd_s hF
  obtain ⟨⟨v327, M328⟩, e326, hF⟩ := ob_s hF
  rcases Decidable.em (v321 = v327) with c329 | c329
  · have hF := if_p c329 hF
    have h9 := (mn_L_law_1309 (V := V) (xs := xs) (L := L) k18 hmk18) hF
    exact ⟨by omega, by omega⟩
  · have hF := if_n c329 hF
    exact absurd (lw_01 hF) (by decide)
theorem b_L_law_617 {S' : mSh} {M' : mMm} {n' z' : Nat} (hV : mV V n0 P) (hVs : mVs V n0 P) (hs : l.stackTraces = false) (hVx : mVx n0 P) (hn0 : s.heap.size = n0) (hXs : va_X b L xs s s.heap) (hbl : b < n0) (hbd : n' - n0 ≤ 601024 ∧ z' ≤ 7293034) (X : mCx D n0 P p m c cL_law 4 s #[Value.ref b] "WindingSquareLaw" meth (some .boolean)) (k18 : mSh → mMm → Nat → Nat → Nat → Nat → Int32 → Option (Int32 × mSh × mMm × Nat × Nat)) (hmk18 : ∀ {S : mSh} {M : mMm} {n z : Nat} {x1 : Nat} {x2 : Nat} {x3 : Int32}, k18 S M n z x1 x2 x3 = some (1, S', M', n', z') → n ≤ n' ∧ z ≤ z') (hk18 : ∀ (S : mSh) (M : mMm) (n z : Nat) (x1 : Nat) (x2 : Nat) (x3 : Int32) (H : Heap) (locs : List Loc) (ls : Array Slot), n0 ≤ n → mHp D n0 S M n s H locs → lv_has ls 4 [(0, .ref b), (1, .ref x1), (2, .ref x2), (3, .int x3)] → k18 S M n z x1 x2 x3 = some (1, S', M', n', z') → W p l e room_1 s m #[Value.ref b] below meth c H locs (n - n0) (z) (lw_Z below #[Value.ref b] s) (F0 m 18 ls [])) : ∀ (S : mSh) (M : mMm) (n z : Nat) (x1 : Nat) (x2 : Nat) (x3 : Int32) (H : Heap) (locs : List Loc) (ls : Array Slot), n0 ≤ n → mHp D n0 S M n s H locs → lv_has ls 4 [(0, .ref b), (1, .ref x1), (2, .ref x2), (3, .int x3)] → fb_L_law_617 V xs L k18 S M n z x1 x2 x3 = some (1, S', M', n', z') → W p l e room_1 s m #[Value.ref b] below meth c H locs (n - n0) (z) (lw_Z below #[Value.ref b] s) (F0 m 617 ls []) := by
  have hx := X.1.1
  have hb := X.1.2.1
  have hown := X.1.2.2.2.1
  have hts := X.1.2.2.2.2
  intro S M n z x1 x2 x3 H locs ls hn hp hl hF
  have hm0 := mn_L_law_617 _ hmk18 hF
  unfold fb_L_law_617 at hF
  refine lv_aload_n hx hb dL_law_617 rfl (lv_at hl 1 rfl) ?_
  refine lv_aload_n hx hb dL_law_618 rfl (lv_at hl 0 rfl) ?_
  refine lv_iload_n hx hb dL_law_619 rfl (lv_at hl 3 rfl) ?_
  refine lv_iconst (v := 1) hx hb dL_law_620 (by decide) ?_
  refine lv_iadd hx hb dL_law_621 ?_
  obtain ⟨g317, hF⟩ := gd_s hF
  refine va_sld hx hb hXs (by rw [hn0]; exact hbl) (fun h => Nat.not_le.mpr hbl h) hp.2 g317 dL_law_622 ?_
  refine lv_aload_n hx hb dL_law_623 rfl (lv_at hl 0 rfl) ?_
  refine lv_iload_n hx hb dL_law_624 rfl (lv_at hl 3 rfl) ?_
  refine lv_iconst (v := 2) hx hb dL_law_625 (by decide) ?_
  refine lv_iadd hx hb dL_law_626 ?_
  obtain ⟨g318, hF⟩ := gd_s hF
  refine va_sld hx hb hXs (by rw [hn0]; exact hbl) (fun h => Nat.not_le.mpr hbl h) hp.2 g318 dL_law_627 ?_
  obtain ⟨g319, hF⟩ := gd_s hF
  obtain ⟨⟨v321, M322⟩, e320, hF⟩ := ob_s hF
  refine m_callV (As := [.int (xs (x3 + (1 : Int32)).toNatClampNeg), .int (xs (x3 + (2 : Int32)).toNatClampNeg)]) (rest := []) X hp (w_X0_goes e320) q1205 q1206 q1207 q132 q1208 2 rfl ds_X0_goes ⟨Nat.le_of_ble_eq_true rfl, Nat.le_of_ble_eq_true rfl⟩ 1 (T := TX0) (N := 30) rfl (by decide) g319 hl.1 rfl (Nat.le_of_ble_eq_true rfl) dL_law_628 ⟨by show _ + 0 ≤ 601024; omega, by show _ + 0 ≤ 7293034; omega⟩ (fun H locs hp => ?_)
  refine lv_aload_n hx hb dL_law_631 rfl (lv_at hl 2 rfl) ?_
  refine lv_aload_n hx hb dL_law_632 rfl (lv_at hl 0 rfl) ?_
  refine lv_iload_n hx hb dL_law_633 rfl (lv_at hl 3 rfl) ?_
  refine lv_iconst (v := 1) hx hb dL_law_634 (by decide) ?_
  refine lv_iadd hx hb dL_law_635 ?_
  obtain ⟨g323, hF⟩ := gd_s hF
  refine va_sld hx hb hXs (by rw [hn0]; exact hbl) (fun h => Nat.not_le.mpr hbl h) hp.2 g323 dL_law_636 ?_
  refine lv_aload_n hx hb dL_law_637 rfl (lv_at hl 0 rfl) ?_
  refine lv_iload_n hx hb dL_law_638 rfl (lv_at hl 3 rfl) ?_
  refine lv_iconst (v := 2) hx hb dL_law_639 (by decide) ?_
  refine lv_iadd hx hb dL_law_640 ?_
  obtain ⟨g324, hF⟩ := gd_s hF
  refine va_sld hx hb hXs (by rw [hn0]; exact hbl) (fun h => Nat.not_le.mpr hbl h) hp.2 g324 dL_law_641 ?_
  obtain ⟨g325, hF⟩ := gd_s hF
  obtain ⟨⟨v327, M328⟩, e326, hF⟩ := ob_s hF
  refine m_callV (As := [.int (xs (x3 + (1 : Int32)).toNatClampNeg), .int (xs (x3 + (2 : Int32)).toNatClampNeg)]) (rest := [.int v321]) X hp (w_X5_goes e326) q1887 q1888 q1889 q144 q1890 2 rfl ds_X5_goes ⟨Nat.le_of_ble_eq_true rfl, Nat.le_of_ble_eq_true rfl⟩ 6 (T := TX5) (N := 40) rfl (by decide) g325 hl.1 rfl (Nat.le_of_ble_eq_true rfl) dL_law_642 ⟨by show _ + 0 ≤ 601024; omega, by show _ + 0 ≤ 7293034; omega⟩ (fun H locs hp => ?_)
  refine lv_icmp_eq (tgt := 1309) hx hb dL_law_645 (by decide) (fun c329 => ?_) (fun c329 => ?_)
  · have hF := if_p c329 hF
    exact b_L_law_1309 hV hVs hs hVx hn0 hXs hbl hbd X k18 hmk18 hk18 _ _ _ _ _ _ _ _ _ _ (by omega) hp (lv_sub hl [0, 1, 2, 3] rfl) hF
  · have hF := if_n c329 hF
    refine lv_iconst (v := 0) hx hb dL_law_648 (by decide) ?_
    exact absurd (lw_01 hF) (by decide)
def fb_L_law_650 (V : Nat → Nat) (xs : Nat → Int32) (L : Nat) (k18 : mSh → mMm → Nat → Nat → Nat → Nat → Int32 → Option (Int32 × mSh × mMm × Nat × Nat)) (S : mSh) (M : mMm) (n z : Nat) (x1 : Nat) (x2 : Nat) (x3 : Int32) : Option (Int32 × mSh × mMm × Nat × Nat) := gd (¬ ((x3 + (1 : Int32)) < 0 ∨ L ≤ (x3 + (1 : Int32)).toNatClampNeg)) (gd ((S x1).1 = 1) (ob (f_X0_over S M x1 (xs (x3 + (1 : Int32)).toNatClampNeg)) fun ⟨v309, M310⟩ => gd (¬ ((x3 + (1 : Int32)) < 0 ∨ L ≤ (x3 + (1 : Int32)).toNatClampNeg)) (gd ((S x2).1 = 6) (ob (f_X5_over S M310 x2 (xs (x3 + (1 : Int32)).toNatClampNeg)) fun ⟨v314, M315⟩ => (if v309 = v314 then (fb_L_law_1309 V xs L k18 S M315 n z x1 x2 x3) else some ((0 : Int32), S, M315, n, z))))))
theorem mn_L_law_650 {S' : mSh} {M' : mMm} {n' z' : Nat} (k18 : mSh → mMm → Nat → Nat → Nat → Nat → Int32 → Option (Int32 × mSh × mMm × Nat × Nat)) (hmk18 : ∀ {S : mSh} {M : mMm} {n z : Nat} {x1 : Nat} {x2 : Nat} {x3 : Int32}, k18 S M n z x1 x2 x3 = some (1, S', M', n', z') → n ≤ n' ∧ z ≤ z') : ∀ {S : mSh} {M : mMm} {n z : Nat} {x1 : Nat} {x2 : Nat} {x3 : Int32}, fb_L_law_650 V xs L k18 S M n z x1 x2 x3 = some (1, S', M', n', z') → n ≤ n' ∧ z ≤ z' := by
  intro S M n z x1 x2 x3 hF
  unfold fb_L_law_650 at hF
  obtain ⟨g306, hF⟩ := gd_s hF
  obtain ⟨g307, hF⟩ := gd_s hF
  obtain ⟨⟨v309, M310⟩, e308, hF⟩ := ob_s hF
  obtain ⟨g311, hF⟩ := gd_s hF
  obtain ⟨g312, hF⟩ := gd_s hF
  obtain ⟨⟨v314, M315⟩, e313, hF⟩ := ob_s hF
  rcases Decidable.em (v309 = v314) with c316 | c316
  · have hF := if_p c316 hF
    have h9 := (mn_L_law_1309 (V := V) (xs := xs) (L := L) k18 hmk18) hF
    exact ⟨by omega, by omega⟩
  · have hF := if_n c316 hF
    exact absurd (lw_01 hF) (by decide)
theorem b_L_law_650 {S' : mSh} {M' : mMm} {n' z' : Nat} (hV : mV V n0 P) (hVs : mVs V n0 P) (hs : l.stackTraces = false) (hVx : mVx n0 P) (hn0 : s.heap.size = n0) (hXs : va_X b L xs s s.heap) (hbl : b < n0) (hbd : n' - n0 ≤ 601024 ∧ z' ≤ 7293034) (X : mCx D n0 P p m c cL_law 4 s #[Value.ref b] "WindingSquareLaw" meth (some .boolean)) (k18 : mSh → mMm → Nat → Nat → Nat → Nat → Int32 → Option (Int32 × mSh × mMm × Nat × Nat)) (hmk18 : ∀ {S : mSh} {M : mMm} {n z : Nat} {x1 : Nat} {x2 : Nat} {x3 : Int32}, k18 S M n z x1 x2 x3 = some (1, S', M', n', z') → n ≤ n' ∧ z ≤ z') (hk18 : ∀ (S : mSh) (M : mMm) (n z : Nat) (x1 : Nat) (x2 : Nat) (x3 : Int32) (H : Heap) (locs : List Loc) (ls : Array Slot), n0 ≤ n → mHp D n0 S M n s H locs → lv_has ls 4 [(0, .ref b), (1, .ref x1), (2, .ref x2), (3, .int x3)] → k18 S M n z x1 x2 x3 = some (1, S', M', n', z') → W p l e room_1 s m #[Value.ref b] below meth c H locs (n - n0) (z) (lw_Z below #[Value.ref b] s) (F0 m 18 ls [])) : ∀ (S : mSh) (M : mMm) (n z : Nat) (x1 : Nat) (x2 : Nat) (x3 : Int32) (H : Heap) (locs : List Loc) (ls : Array Slot), n0 ≤ n → mHp D n0 S M n s H locs → lv_has ls 4 [(0, .ref b), (1, .ref x1), (2, .ref x2), (3, .int x3)] → fb_L_law_650 V xs L k18 S M n z x1 x2 x3 = some (1, S', M', n', z') → W p l e room_1 s m #[Value.ref b] below meth c H locs (n - n0) (z) (lw_Z below #[Value.ref b] s) (F0 m 650 ls []) := by
  have hx := X.1.1
  have hb := X.1.2.1
  have hown := X.1.2.2.2.1
  have hts := X.1.2.2.2.2
  intro S M n z x1 x2 x3 H locs ls hn hp hl hF
  have hm0 := mn_L_law_650 _ hmk18 hF
  unfold fb_L_law_650 at hF
  refine lv_aload_n hx hb dL_law_650 rfl (lv_at hl 1 rfl) ?_
  refine lv_aload_n hx hb dL_law_651 rfl (lv_at hl 0 rfl) ?_
  refine lv_iload_n hx hb dL_law_652 rfl (lv_at hl 3 rfl) ?_
  refine lv_iconst (v := 1) hx hb dL_law_653 (by decide) ?_
  refine lv_iadd hx hb dL_law_654 ?_
  obtain ⟨g306, hF⟩ := gd_s hF
  refine va_sld hx hb hXs (by rw [hn0]; exact hbl) (fun h => Nat.not_le.mpr hbl h) hp.2 g306 dL_law_655 ?_
  obtain ⟨g307, hF⟩ := gd_s hF
  obtain ⟨⟨v309, M310⟩, e308, hF⟩ := ob_s hF
  refine m_callV (As := [.int (xs (x3 + (1 : Int32)).toNatClampNeg)]) (rest := []) X hp (w_X0_over e308) q1216 q1217 q1218 q132 q1219 1 rfl ds_X0_over ⟨Nat.le_of_ble_eq_true rfl, Nat.le_of_ble_eq_true rfl⟩ 1 (T := TX0) (N := 30) rfl (by decide) g307 hl.1 rfl (Nat.le_of_ble_eq_true rfl) dL_law_656 ⟨by show _ + 0 ≤ 601024; omega, by show _ + 0 ≤ 7293034; omega⟩ (fun H locs hp => ?_)
  refine lv_aload_n hx hb dL_law_659 rfl (lv_at hl 2 rfl) ?_
  refine lv_aload_n hx hb dL_law_660 rfl (lv_at hl 0 rfl) ?_
  refine lv_iload_n hx hb dL_law_661 rfl (lv_at hl 3 rfl) ?_
  refine lv_iconst (v := 1) hx hb dL_law_662 (by decide) ?_
  refine lv_iadd hx hb dL_law_663 ?_
  obtain ⟨g311, hF⟩ := gd_s hF
  refine va_sld hx hb hXs (by rw [hn0]; exact hbl) (fun h => Nat.not_le.mpr hbl h) hp.2 g311 dL_law_664 ?_
  obtain ⟨g312, hF⟩ := gd_s hF
  obtain ⟨⟨v314, M315⟩, e313, hF⟩ := ob_s hF
  refine m_callV (As := [.int (xs (x3 + (1 : Int32)).toNatClampNeg)]) (rest := [.int v309]) X hp (w_X5_over e313) q1891 q1892 q1893 q144 q1894 1 rfl ds_X5_over ⟨Nat.le_of_ble_eq_true rfl, Nat.le_of_ble_eq_true rfl⟩ 6 (T := TX5) (N := 40) rfl (by decide) g312 hl.1 rfl (Nat.le_of_ble_eq_true rfl) dL_law_665 ⟨by show _ + 0 ≤ 601024; omega, by show _ + 0 ≤ 7293034; omega⟩ (fun H locs hp => ?_)
  refine lv_icmp_eq (tgt := 1309) hx hb dL_law_668 (by decide) (fun c316 => ?_) (fun c316 => ?_)
  · have hF := if_p c316 hF
    exact b_L_law_1309 hV hVs hs hVx hn0 hXs hbl hbd X k18 hmk18 hk18 _ _ _ _ _ _ _ _ _ _ (by omega) hp (lv_sub hl [0, 1, 2, 3] rfl) hF
  · have hF := if_n c316 hF
    refine lv_iconst (v := 0) hx hb dL_law_671 (by decide) ?_
    exact absurd (lw_01 hF) (by decide)
def fb_L_law_673 (V : Nat → Nat) (xs : Nat → Int32) (L : Nat) (k18 : mSh → mMm → Nat → Nat → Nat → Nat → Int32 → Option (Int32 × mSh × mMm × Nat × Nat)) (S : mSh) (M : mMm) (n z : Nat) (x1 : Nat) (x2 : Nat) (x3 : Int32) : Option (Int32 × mSh × mMm × Nat × Nat) := gd (¬ ((x3 + (1 : Int32)) < 0 ∨ L ≤ (x3 + (1 : Int32)).toNatClampNeg)) (gd (¬ ((x3 + (2 : Int32)) < 0 ∨ L ≤ (x3 + (2 : Int32)).toNatClampNeg)) (gd (¬ ((x3 + (3 : Int32)) < 0 ∨ L ≤ (x3 + (3 : Int32)).toNatClampNeg)) (gd (¬ ((x3 + (4 : Int32)) < 0 ∨ L ≤ (x3 + (4 : Int32)).toNatClampNeg)) (gd ((S x1).1 = 1) (ob (f_X0_far S M x1 (xs (x3 + (1 : Int32)).toNatClampNeg) (xs (x3 + (2 : Int32)).toNatClampNeg) (xs (x3 + (3 : Int32)).toNatClampNeg) (xs (x3 + (4 : Int32)).toNatClampNeg)) fun ⟨v295, M296⟩ => gd (¬ ((x3 + (1 : Int32)) < 0 ∨ L ≤ (x3 + (1 : Int32)).toNatClampNeg)) (gd (¬ ((x3 + (2 : Int32)) < 0 ∨ L ≤ (x3 + (2 : Int32)).toNatClampNeg)) (gd (¬ ((x3 + (3 : Int32)) < 0 ∨ L ≤ (x3 + (3 : Int32)).toNatClampNeg)) (gd (¬ ((x3 + (4 : Int32)) < 0 ∨ L ≤ (x3 + (4 : Int32)).toNatClampNeg)) (gd ((S x2).1 = 6) (ob (f_X5_far S M296 x2 (xs (x3 + (1 : Int32)).toNatClampNeg) (xs (x3 + (2 : Int32)).toNatClampNeg) (xs (x3 + (3 : Int32)).toNatClampNeg) (xs (x3 + (4 : Int32)).toNatClampNeg)) fun ⟨v303, M304⟩ => (if v295 = v303 then (fb_L_law_1309 V xs L k18 S M304 n z x1 x2 x3) else some ((0 : Int32), S, M304, n, z))))))))))))
theorem mn_L_law_673 {S' : mSh} {M' : mMm} {n' z' : Nat} (k18 : mSh → mMm → Nat → Nat → Nat → Nat → Int32 → Option (Int32 × mSh × mMm × Nat × Nat)) (hmk18 : ∀ {S : mSh} {M : mMm} {n z : Nat} {x1 : Nat} {x2 : Nat} {x3 : Int32}, k18 S M n z x1 x2 x3 = some (1, S', M', n', z') → n ≤ n' ∧ z ≤ z') : ∀ {S : mSh} {M : mMm} {n z : Nat} {x1 : Nat} {x2 : Nat} {x3 : Int32}, fb_L_law_673 V xs L k18 S M n z x1 x2 x3 = some (1, S', M', n', z') → n ≤ n' ∧ z ≤ z' := by
  intro S M n z x1 x2 x3 hF
  unfold fb_L_law_673 at hF
  obtain ⟨g289, hF⟩ := gd_s hF
  obtain ⟨g290, hF⟩ := gd_s hF
  obtain ⟨g291, hF⟩ := gd_s hF
  obtain ⟨g292, hF⟩ := gd_s hF
  obtain ⟨g293, hF⟩ := gd_s hF
  obtain ⟨⟨v295, M296⟩, e294, hF⟩ := ob_s hF
  obtain ⟨g297, hF⟩ := gd_s hF
  obtain ⟨g298, hF⟩ := gd_s hF
  obtain ⟨g299, hF⟩ := gd_s hF
  obtain ⟨g300, hF⟩ := gd_s hF
  obtain ⟨g301, hF⟩ := gd_s hF
  obtain ⟨⟨v303, M304⟩, e302, hF⟩ := ob_s hF
  rcases Decidable.em (v295 = v303) with c305 | c305
  · have hF := if_p c305 hF
    have h9 := (mn_L_law_1309 (V := V) (xs := xs) (L := L) k18 hmk18) hF
    exact ⟨by omega, by omega⟩
  · have hF := if_n c305 hF
    exact absurd (lw_01 hF) (by decide)
theorem b_L_law_673 {S' : mSh} {M' : mMm} {n' z' : Nat} (hV : mV V n0 P) (hVs : mVs V n0 P) (hs : l.stackTraces = false) (hVx : mVx n0 P) (hn0 : s.heap.size = n0) (hXs : va_X b L xs s s.heap) (hbl : b < n0) (hbd : n' - n0 ≤ 601024 ∧ z' ≤ 7293034) (X : mCx D n0 P p m c cL_law 4 s #[Value.ref b] "WindingSquareLaw" meth (some .boolean)) (k18 : mSh → mMm → Nat → Nat → Nat → Nat → Int32 → Option (Int32 × mSh × mMm × Nat × Nat)) (hmk18 : ∀ {S : mSh} {M : mMm} {n z : Nat} {x1 : Nat} {x2 : Nat} {x3 : Int32}, k18 S M n z x1 x2 x3 = some (1, S', M', n', z') → n ≤ n' ∧ z ≤ z') (hk18 : ∀ (S : mSh) (M : mMm) (n z : Nat) (x1 : Nat) (x2 : Nat) (x3 : Int32) (H : Heap) (locs : List Loc) (ls : Array Slot), n0 ≤ n → mHp D n0 S M n s H locs → lv_has ls 4 [(0, .ref b), (1, .ref x1), (2, .ref x2), (3, .int x3)] → k18 S M n z x1 x2 x3 = some (1, S', M', n', z') → W p l e room_1 s m #[Value.ref b] below meth c H locs (n - n0) (z) (lw_Z below #[Value.ref b] s) (F0 m 18 ls [])) : ∀ (S : mSh) (M : mMm) (n z : Nat) (x1 : Nat) (x2 : Nat) (x3 : Int32) (H : Heap) (locs : List Loc) (ls : Array Slot), n0 ≤ n → mHp D n0 S M n s H locs → lv_has ls 4 [(0, .ref b), (1, .ref x1), (2, .ref x2), (3, .int x3)] → fb_L_law_673 V xs L k18 S M n z x1 x2 x3 = some (1, S', M', n', z') → W p l e room_1 s m #[Value.ref b] below meth c H locs (n - n0) (z) (lw_Z below #[Value.ref b] s) (F0 m 673 ls []) := by
  have hx := X.1.1
  have hb := X.1.2.1
  have hown := X.1.2.2.2.1
  have hts := X.1.2.2.2.2
  intro S M n z x1 x2 x3 H locs ls hn hp hl hF
  have hm0 := mn_L_law_673 _ hmk18 hF
  unfold fb_L_law_673 at hF
  refine lv_aload_n hx hb dL_law_673 rfl (lv_at hl 1 rfl) ?_
  refine lv_aload_n hx hb dL_law_674 rfl (lv_at hl 0 rfl) ?_
  refine lv_iload_n hx hb dL_law_675 rfl (lv_at hl 3 rfl) ?_
  refine lv_iconst (v := 1) hx hb dL_law_676 (by decide) ?_
  refine lv_iadd hx hb dL_law_677 ?_
  obtain ⟨g289, hF⟩ := gd_s hF
  refine va_sld hx hb hXs (by rw [hn0]; exact hbl) (fun h => Nat.not_le.mpr hbl h) hp.2 g289 dL_law_678 ?_
  refine lv_aload_n hx hb dL_law_679 rfl (lv_at hl 0 rfl) ?_
  refine lv_iload_n hx hb dL_law_680 rfl (lv_at hl 3 rfl) ?_
  refine lv_iconst (v := 2) hx hb dL_law_681 (by decide) ?_
  refine lv_iadd hx hb dL_law_682 ?_
  obtain ⟨g290, hF⟩ := gd_s hF
  refine va_sld hx hb hXs (by rw [hn0]; exact hbl) (fun h => Nat.not_le.mpr hbl h) hp.2 g290 dL_law_683 ?_
  refine lv_aload_n hx hb dL_law_684 rfl (lv_at hl 0 rfl) ?_
  refine lv_iload_n hx hb dL_law_685 rfl (lv_at hl 3 rfl) ?_
  refine lv_iconst (v := 3) hx hb dL_law_686 (by decide) ?_
  refine lv_iadd hx hb dL_law_687 ?_
  obtain ⟨g291, hF⟩ := gd_s hF
  refine va_sld hx hb hXs (by rw [hn0]; exact hbl) (fun h => Nat.not_le.mpr hbl h) hp.2 g291 dL_law_688 ?_
  refine lv_aload_n hx hb dL_law_689 rfl (lv_at hl 0 rfl) ?_
  refine lv_iload_n hx hb dL_law_690 rfl (lv_at hl 3 rfl) ?_
  refine lv_iconst (v := 4) hx hb dL_law_691 (by decide) ?_
  refine lv_iadd hx hb dL_law_692 ?_
  obtain ⟨g292, hF⟩ := gd_s hF
  refine va_sld hx hb hXs (by rw [hn0]; exact hbl) (fun h => Nat.not_le.mpr hbl h) hp.2 g292 dL_law_693 ?_
  obtain ⟨g293, hF⟩ := gd_s hF
  obtain ⟨⟨v295, M296⟩, e294, hF⟩ := ob_s hF
  refine m_callV (As := [.int (xs (x3 + (1 : Int32)).toNatClampNeg), .int (xs (x3 + (2 : Int32)).toNatClampNeg), .int (xs (x3 + (3 : Int32)).toNatClampNeg), .int (xs (x3 + (4 : Int32)).toNatClampNeg)]) (rest := []) X hp (w_X0_far e294) q1220 q1221 q1222 q132 q1223 4 rfl ds_X0_far ⟨Nat.le_of_ble_eq_true rfl, Nat.le_of_ble_eq_true rfl⟩ 1 (T := TX0) (N := 30) rfl (by decide) g293 hl.1 rfl (Nat.le_of_ble_eq_true rfl) dL_law_694 ⟨by show _ + 0 ≤ 601024; omega, by show _ + 0 ≤ 7293034; omega⟩ (fun H locs hp => ?_)
  refine lv_aload_n hx hb dL_law_697 rfl (lv_at hl 2 rfl) ?_
  refine lv_aload_n hx hb dL_law_698 rfl (lv_at hl 0 rfl) ?_
  refine lv_iload_n hx hb dL_law_699 rfl (lv_at hl 3 rfl) ?_
  refine lv_iconst (v := 1) hx hb dL_law_700 (by decide) ?_
  refine lv_iadd hx hb dL_law_701 ?_
  obtain ⟨g297, hF⟩ := gd_s hF
  refine va_sld hx hb hXs (by rw [hn0]; exact hbl) (fun h => Nat.not_le.mpr hbl h) hp.2 g297 dL_law_702 ?_
  refine lv_aload_n hx hb dL_law_703 rfl (lv_at hl 0 rfl) ?_
  refine lv_iload_n hx hb dL_law_704 rfl (lv_at hl 3 rfl) ?_
  refine lv_iconst (v := 2) hx hb dL_law_705 (by decide) ?_
  refine lv_iadd hx hb dL_law_706 ?_
  obtain ⟨g298, hF⟩ := gd_s hF
  refine va_sld hx hb hXs (by rw [hn0]; exact hbl) (fun h => Nat.not_le.mpr hbl h) hp.2 g298 dL_law_707 ?_
  refine lv_aload_n hx hb dL_law_708 rfl (lv_at hl 0 rfl) ?_
  refine lv_iload_n hx hb dL_law_709 rfl (lv_at hl 3 rfl) ?_
  refine lv_iconst (v := 3) hx hb dL_law_710 (by decide) ?_
  refine lv_iadd hx hb dL_law_711 ?_
  obtain ⟨g299, hF⟩ := gd_s hF
  refine va_sld hx hb hXs (by rw [hn0]; exact hbl) (fun h => Nat.not_le.mpr hbl h) hp.2 g299 dL_law_712 ?_
  refine lv_aload_n hx hb dL_law_713 rfl (lv_at hl 0 rfl) ?_
  refine lv_iload_n hx hb dL_law_714 rfl (lv_at hl 3 rfl) ?_
  refine lv_iconst (v := 4) hx hb dL_law_715 (by decide) ?_
  refine lv_iadd hx hb dL_law_716 ?_
  obtain ⟨g300, hF⟩ := gd_s hF
  refine va_sld hx hb hXs (by rw [hn0]; exact hbl) (fun h => Nat.not_le.mpr hbl h) hp.2 g300 dL_law_717 ?_
  obtain ⟨g301, hF⟩ := gd_s hF
  obtain ⟨⟨v303, M304⟩, e302, hF⟩ := ob_s hF
  refine m_callV (As := [.int (xs (x3 + (1 : Int32)).toNatClampNeg), .int (xs (x3 + (2 : Int32)).toNatClampNeg), .int (xs (x3 + (3 : Int32)).toNatClampNeg), .int (xs (x3 + (4 : Int32)).toNatClampNeg)]) (rest := [.int v295]) X hp (w_X5_far e302) q1903 q1904 q1905 q144 q1906 4 rfl ds_X5_far ⟨Nat.le_of_ble_eq_true rfl, Nat.le_of_ble_eq_true rfl⟩ 6 (T := TX5) (N := 40) rfl (by decide) g301 hl.1 rfl (Nat.le_of_ble_eq_true rfl) dL_law_718 ⟨by show _ + 0 ≤ 601024; omega, by show _ + 0 ≤ 7293034; omega⟩ (fun H locs hp => ?_)
  refine lv_icmp_eq (tgt := 1309) hx hb dL_law_721 (by decide) (fun c305 => ?_) (fun c305 => ?_)
  · have hF := if_p c305 hF
    exact b_L_law_1309 hV hVs hs hVx hn0 hXs hbl hbd X k18 hmk18 hk18 _ _ _ _ _ _ _ _ _ _ (by omega) hp (lv_sub hl [0, 1, 2, 3] rfl) hF
  · have hF := if_n c305 hF
    refine lv_iconst (v := 0) hx hb dL_law_724 (by decide) ?_
    exact absurd (lw_01 hF) (by decide)
def fb_L_law_726 (V : Nat → Nat) (xs : Nat → Int32) (L : Nat) (k18 : mSh → mMm → Nat → Nat → Nat → Nat → Int32 → Option (Int32 × mSh × mMm × Nat × Nat)) (S : mSh) (M : mMm) (n z : Nat) (x1 : Nat) (x2 : Nat) (x3 : Int32) : Option (Int32 × mSh × mMm × Nat × Nat) := gd (¬ ((x3 + (1 : Int32)) < 0 ∨ L ≤ (x3 + (1 : Int32)).toNatClampNeg)) (gd (¬ ((x3 + (2 : Int32)) < 0 ∨ L ≤ (x3 + (2 : Int32)).toNatClampNeg)) (gd (¬ ((x3 + (3 : Int32)) < 0 ∨ L ≤ (x3 + (3 : Int32)).toNatClampNeg)) (gd (¬ ((x3 + (4 : Int32)) < 0 ∨ L ≤ (x3 + (4 : Int32)).toNatClampNeg)) (gd ((S x1).1 = 1) (ob (f_X0_with S M x1 (xs (x3 + (1 : Int32)).toNatClampNeg) (xs (x3 + (2 : Int32)).toNatClampNeg) (xs (x3 + (3 : Int32)).toNatClampNeg) (xs (x3 + (4 : Int32)).toNatClampNeg)) fun ⟨v278, M279⟩ => gd (¬ ((x3 + (1 : Int32)) < 0 ∨ L ≤ (x3 + (1 : Int32)).toNatClampNeg)) (gd (¬ ((x3 + (2 : Int32)) < 0 ∨ L ≤ (x3 + (2 : Int32)).toNatClampNeg)) (gd (¬ ((x3 + (3 : Int32)) < 0 ∨ L ≤ (x3 + (3 : Int32)).toNatClampNeg)) (gd (¬ ((x3 + (4 : Int32)) < 0 ∨ L ≤ (x3 + (4 : Int32)).toNatClampNeg)) (gd ((S x2).1 = 6) (ob (f_X5_with S M279 x2 (xs (x3 + (1 : Int32)).toNatClampNeg) (xs (x3 + (2 : Int32)).toNatClampNeg) (xs (x3 + (3 : Int32)).toNatClampNeg) (xs (x3 + (4 : Int32)).toNatClampNeg)) fun ⟨v286, M287⟩ => (if v278 = v286 then (fb_L_law_1309 V xs L k18 S M287 n z x1 x2 x3) else some ((0 : Int32), S, M287, n, z))))))))))))
theorem mn_L_law_726 {S' : mSh} {M' : mMm} {n' z' : Nat} (k18 : mSh → mMm → Nat → Nat → Nat → Nat → Int32 → Option (Int32 × mSh × mMm × Nat × Nat)) (hmk18 : ∀ {S : mSh} {M : mMm} {n z : Nat} {x1 : Nat} {x2 : Nat} {x3 : Int32}, k18 S M n z x1 x2 x3 = some (1, S', M', n', z') → n ≤ n' ∧ z ≤ z') : ∀ {S : mSh} {M : mMm} {n z : Nat} {x1 : Nat} {x2 : Nat} {x3 : Int32}, fb_L_law_726 V xs L k18 S M n z x1 x2 x3 = some (1, S', M', n', z') → n ≤ n' ∧ z ≤ z' := by
  intro S M n z x1 x2 x3 hF
  unfold fb_L_law_726 at hF
  obtain ⟨g272, hF⟩ := gd_s hF
  obtain ⟨g273, hF⟩ := gd_s hF
  obtain ⟨g274, hF⟩ := gd_s hF
  obtain ⟨g275, hF⟩ := gd_s hF
  obtain ⟨g276, hF⟩ := gd_s hF
  obtain ⟨⟨v278, M279⟩, e277, hF⟩ := ob_s hF
  obtain ⟨g280, hF⟩ := gd_s hF
  obtain ⟨g281, hF⟩ := gd_s hF
  obtain ⟨g282, hF⟩ := gd_s hF
  obtain ⟨g283, hF⟩ := gd_s hF
  obtain ⟨g284, hF⟩ := gd_s hF
  obtain ⟨⟨v286, M287⟩, e285, hF⟩ := ob_s hF
  rcases Decidable.em (v278 = v286) with c288 | c288
  · have hF := if_p c288 hF
    have h9 := (mn_L_law_1309 (V := V) (xs := xs) (L := L) k18 hmk18) hF
    exact ⟨by omega, by omega⟩
  · have hF := if_n c288 hF
    exact absurd (lw_01 hF) (by decide)
theorem b_L_law_726 {S' : mSh} {M' : mMm} {n' z' : Nat} (hV : mV V n0 P) (hVs : mVs V n0 P) (hs : l.stackTraces = false) (hVx : mVx n0 P) (hn0 : s.heap.size = n0) (hXs : va_X b L xs s s.heap) (hbl : b < n0) (hbd : n' - n0 ≤ 601024 ∧ z' ≤ 7293034) (X : mCx D n0 P p m c cL_law 4 s #[Value.ref b] "WindingSquareLaw" meth (some .boolean)) (k18 : mSh → mMm → Nat → Nat → Nat → Nat → Int32 → Option (Int32 × mSh × mMm × Nat × Nat)) (hmk18 : ∀ {S : mSh} {M : mMm} {n z : Nat} {x1 : Nat} {x2 : Nat} {x3 : Int32}, k18 S M n z x1 x2 x3 = some (1, S', M', n', z') → n ≤ n' ∧ z ≤ z') (hk18 : ∀ (S : mSh) (M : mMm) (n z : Nat) (x1 : Nat) (x2 : Nat) (x3 : Int32) (H : Heap) (locs : List Loc) (ls : Array Slot), n0 ≤ n → mHp D n0 S M n s H locs → lv_has ls 4 [(0, .ref b), (1, .ref x1), (2, .ref x2), (3, .int x3)] → k18 S M n z x1 x2 x3 = some (1, S', M', n', z') → W p l e room_1 s m #[Value.ref b] below meth c H locs (n - n0) (z) (lw_Z below #[Value.ref b] s) (F0 m 18 ls [])) : ∀ (S : mSh) (M : mMm) (n z : Nat) (x1 : Nat) (x2 : Nat) (x3 : Int32) (H : Heap) (locs : List Loc) (ls : Array Slot), n0 ≤ n → mHp D n0 S M n s H locs → lv_has ls 4 [(0, .ref b), (1, .ref x1), (2, .ref x2), (3, .int x3)] → fb_L_law_726 V xs L k18 S M n z x1 x2 x3 = some (1, S', M', n', z') → W p l e room_1 s m #[Value.ref b] below meth c H locs (n - n0) (z) (lw_Z below #[Value.ref b] s) (F0 m 726 ls []) := by
  have hx := X.1.1
  have hb := X.1.2.1
  have hown := X.1.2.2.2.1
  have hts := X.1.2.2.2.2
  intro S M n z x1 x2 x3 H locs ls hn hp hl hF
  have hm0 := mn_L_law_726 _ hmk18 hF
  unfold fb_L_law_726 at hF
  refine lv_aload_n hx hb dL_law_726 rfl (lv_at hl 1 rfl) ?_
  refine lv_aload_n hx hb dL_law_727 rfl (lv_at hl 0 rfl) ?_
  refine lv_iload_n hx hb dL_law_728 rfl (lv_at hl 3 rfl) ?_
  refine lv_iconst (v := 1) hx hb dL_law_729 (by decide) ?_
  refine lv_iadd hx hb dL_law_730 ?_
  obtain ⟨g272, hF⟩ := gd_s hF
  refine va_sld hx hb hXs (by rw [hn0]; exact hbl) (fun h => Nat.not_le.mpr hbl h) hp.2 g272 dL_law_731 ?_
  refine lv_aload_n hx hb dL_law_732 rfl (lv_at hl 0 rfl) ?_
  refine lv_iload_n hx hb dL_law_733 rfl (lv_at hl 3 rfl) ?_
  refine lv_iconst (v := 2) hx hb dL_law_734 (by decide) ?_
  refine lv_iadd hx hb dL_law_735 ?_
  obtain ⟨g273, hF⟩ := gd_s hF
  refine va_sld hx hb hXs (by rw [hn0]; exact hbl) (fun h => Nat.not_le.mpr hbl h) hp.2 g273 dL_law_736 ?_
  refine lv_aload_n hx hb dL_law_737 rfl (lv_at hl 0 rfl) ?_
  refine lv_iload_n hx hb dL_law_738 rfl (lv_at hl 3 rfl) ?_
  refine lv_iconst (v := 3) hx hb dL_law_739 (by decide) ?_
  refine lv_iadd hx hb dL_law_740 ?_
  obtain ⟨g274, hF⟩ := gd_s hF
  refine va_sld hx hb hXs (by rw [hn0]; exact hbl) (fun h => Nat.not_le.mpr hbl h) hp.2 g274 dL_law_741 ?_
  refine lv_aload_n hx hb dL_law_742 rfl (lv_at hl 0 rfl) ?_
  refine lv_iload_n hx hb dL_law_743 rfl (lv_at hl 3 rfl) ?_
  refine lv_iconst (v := 4) hx hb dL_law_744 (by decide) ?_
  refine lv_iadd hx hb dL_law_745 ?_
  obtain ⟨g275, hF⟩ := gd_s hF
  refine va_sld hx hb hXs (by rw [hn0]; exact hbl) (fun h => Nat.not_le.mpr hbl h) hp.2 g275 dL_law_746 ?_
  obtain ⟨g276, hF⟩ := gd_s hF
  obtain ⟨⟨v278, M279⟩, e277, hF⟩ := ob_s hF
  refine m_callV (As := [.int (xs (x3 + (1 : Int32)).toNatClampNeg), .int (xs (x3 + (2 : Int32)).toNatClampNeg), .int (xs (x3 + (3 : Int32)).toNatClampNeg), .int (xs (x3 + (4 : Int32)).toNatClampNeg)]) (rest := []) X hp (w_X0_with e277) q1246 q1247 q1248 q132 q1249 4 rfl ds_X0_with ⟨Nat.le_of_ble_eq_true rfl, Nat.le_of_ble_eq_true rfl⟩ 1 (T := TX0) (N := 30) rfl (by decide) g276 hl.1 rfl (Nat.le_of_ble_eq_true rfl) dL_law_747 ⟨by show _ + 0 ≤ 601024; omega, by show _ + 0 ≤ 7293034; omega⟩ (fun H locs hp => ?_)
  refine lv_aload_n hx hb dL_law_750 rfl (lv_at hl 2 rfl) ?_
  refine lv_aload_n hx hb dL_law_751 rfl (lv_at hl 0 rfl) ?_
  refine lv_iload_n hx hb dL_law_752 rfl (lv_at hl 3 rfl) ?_
  refine lv_iconst (v := 1) hx hb dL_law_753 (by decide) ?_
  refine lv_iadd hx hb dL_law_754 ?_
  obtain ⟨g280, hF⟩ := gd_s hF
  refine va_sld hx hb hXs (by rw [hn0]; exact hbl) (fun h => Nat.not_le.mpr hbl h) hp.2 g280 dL_law_755 ?_
  refine lv_aload_n hx hb dL_law_756 rfl (lv_at hl 0 rfl) ?_
  refine lv_iload_n hx hb dL_law_757 rfl (lv_at hl 3 rfl) ?_
  refine lv_iconst (v := 2) hx hb dL_law_758 (by decide) ?_
  refine lv_iadd hx hb dL_law_759 ?_
  obtain ⟨g281, hF⟩ := gd_s hF
  refine va_sld hx hb hXs (by rw [hn0]; exact hbl) (fun h => Nat.not_le.mpr hbl h) hp.2 g281 dL_law_760 ?_
  refine lv_aload_n hx hb dL_law_761 rfl (lv_at hl 0 rfl) ?_
  refine lv_iload_n hx hb dL_law_762 rfl (lv_at hl 3 rfl) ?_
  refine lv_iconst (v := 3) hx hb dL_law_763 (by decide) ?_
  refine lv_iadd hx hb dL_law_764 ?_
  obtain ⟨g282, hF⟩ := gd_s hF
  refine va_sld hx hb hXs (by rw [hn0]; exact hbl) (fun h => Nat.not_le.mpr hbl h) hp.2 g282 dL_law_765 ?_
  refine lv_aload_n hx hb dL_law_766 rfl (lv_at hl 0 rfl) ?_
  refine lv_iload_n hx hb dL_law_767 rfl (lv_at hl 3 rfl) ?_
  refine lv_iconst (v := 4) hx hb dL_law_768 (by decide) ?_
  refine lv_iadd hx hb dL_law_769 ?_
  obtain ⟨g283, hF⟩ := gd_s hF
  refine va_sld hx hb hXs (by rw [hn0]; exact hbl) (fun h => Nat.not_le.mpr hbl h) hp.2 g283 dL_law_770 ?_
  obtain ⟨g284, hF⟩ := gd_s hF
  obtain ⟨⟨v286, M287⟩, e285, hF⟩ := ob_s hF
  refine m_callV (As := [.int (xs (x3 + (1 : Int32)).toNatClampNeg), .int (xs (x3 + (2 : Int32)).toNatClampNeg), .int (xs (x3 + (3 : Int32)).toNatClampNeg), .int (xs (x3 + (4 : Int32)).toNatClampNeg)]) (rest := [.int v278]) X hp (w_X5_with e285) q1927 q1928 q1929 q144 q1930 4 rfl ds_X5_with ⟨Nat.le_of_ble_eq_true rfl, Nat.le_of_ble_eq_true rfl⟩ 6 (T := TX5) (N := 40) rfl (by decide) g284 hl.1 rfl (Nat.le_of_ble_eq_true rfl) dL_law_771 ⟨by show _ + 0 ≤ 601024; omega, by show _ + 0 ≤ 7293034; omega⟩ (fun H locs hp => ?_)
  refine lv_icmp_eq (tgt := 1309) hx hb dL_law_774 (by decide) (fun c288 => ?_) (fun c288 => ?_)
  · have hF := if_p c288 hF
    exact b_L_law_1309 hV hVs hs hVx hn0 hXs hbl hbd X k18 hmk18 hk18 _ _ _ _ _ _ _ _ _ _ (by omega) hp (lv_sub hl [0, 1, 2, 3] rfl) hF
  · have hF := if_n c288 hF
    refine lv_iconst (v := 0) hx hb dL_law_777 (by decide) ?_
    exact absurd (lw_01 hF) (by decide)
def fb_L_law_779 (V : Nat → Nat) (xs : Nat → Int32) (L : Nat) (k18 : mSh → mMm → Nat → Nat → Nat → Nat → Int32 → Option (Int32 × mSh × mMm × Nat × Nat)) (S : mSh) (M : mMm) (n z : Nat) (x1 : Nat) (x2 : Nat) (x3 : Int32) : Option (Int32 × mSh × mMm × Nat × Nat) := gd (¬ ((x3 + (1 : Int32)) < 0 ∨ L ≤ (x3 + (1 : Int32)).toNatClampNeg)) (gd (¬ ((x3 + (2 : Int32)) < 0 ∨ L ≤ (x3 + (2 : Int32)).toNatClampNeg)) (gd ((S x1).1 = 1) (ob (f_X0_seen S M x1 (xs (x3 + (1 : Int32)).toNatClampNeg) (xs (x3 + (2 : Int32)).toNatClampNeg)) fun v265 => gd (¬ ((x3 + (1 : Int32)) < 0 ∨ L ≤ (x3 + (1 : Int32)).toNatClampNeg)) (gd (¬ ((x3 + (2 : Int32)) < 0 ∨ L ≤ (x3 + (2 : Int32)).toNatClampNeg)) (gd ((S x2).1 = 6) (ob (f_X5_seen S M x2 (xs (x3 + (1 : Int32)).toNatClampNeg) (xs (x3 + (2 : Int32)).toNatClampNeg)) fun v270 => (if v265 = v270 then (fb_L_law_1309 V xs L k18 S M n z x1 x2 x3) else some ((0 : Int32), S, M, n, z))))))))
theorem mn_L_law_779 {S' : mSh} {M' : mMm} {n' z' : Nat} (k18 : mSh → mMm → Nat → Nat → Nat → Nat → Int32 → Option (Int32 × mSh × mMm × Nat × Nat)) (hmk18 : ∀ {S : mSh} {M : mMm} {n z : Nat} {x1 : Nat} {x2 : Nat} {x3 : Int32}, k18 S M n z x1 x2 x3 = some (1, S', M', n', z') → n ≤ n' ∧ z ≤ z') : ∀ {S : mSh} {M : mMm} {n z : Nat} {x1 : Nat} {x2 : Nat} {x3 : Int32}, fb_L_law_779 V xs L k18 S M n z x1 x2 x3 = some (1, S', M', n', z') → n ≤ n' ∧ z ≤ z' := by
  intro S M n z x1 x2 x3 hF
  unfold fb_L_law_779 at hF
  obtain ⟨g261, hF⟩ := gd_s hF
  obtain ⟨g262, hF⟩ := gd_s hF
  obtain ⟨g263, hF⟩ := gd_s hF
  obtain ⟨v265, e264, hF⟩ := ob_s hF
  obtain ⟨g266, hF⟩ := gd_s hF
  obtain ⟨g267, hF⟩ := gd_s hF
  obtain ⟨g268, hF⟩ := gd_s hF
  obtain ⟨v270, e269, hF⟩ := ob_s hF
  rcases Decidable.em (v265 = v270) with c271 | c271
  · have hF := if_p c271 hF
    have h9 := (mn_L_law_1309 (V := V) (xs := xs) (L := L) k18 hmk18) hF
    exact ⟨by omega, by omega⟩
  · have hF := if_n c271 hF
    exact absurd (lw_01 hF) (by decide)
theorem b_L_law_779 {S' : mSh} {M' : mMm} {n' z' : Nat} (hV : mV V n0 P) (hVs : mVs V n0 P) (hs : l.stackTraces = false) (hVx : mVx n0 P) (hn0 : s.heap.size = n0) (hXs : va_X b L xs s s.heap) (hbl : b < n0) (hbd : n' - n0 ≤ 601024 ∧ z' ≤ 7293034) (X : mCx D n0 P p m c cL_law 4 s #[Value.ref b] "WindingSquareLaw" meth (some .boolean)) (k18 : mSh → mMm → Nat → Nat → Nat → Nat → Int32 → Option (Int32 × mSh × mMm × Nat × Nat)) (hmk18 : ∀ {S : mSh} {M : mMm} {n z : Nat} {x1 : Nat} {x2 : Nat} {x3 : Int32}, k18 S M n z x1 x2 x3 = some (1, S', M', n', z') → n ≤ n' ∧ z ≤ z') (hk18 : ∀ (S : mSh) (M : mMm) (n z : Nat) (x1 : Nat) (x2 : Nat) (x3 : Int32) (H : Heap) (locs : List Loc) (ls : Array Slot), n0 ≤ n → mHp D n0 S M n s H locs → lv_has ls 4 [(0, .ref b), (1, .ref x1), (2, .ref x2), (3, .int x3)] → k18 S M n z x1 x2 x3 = some (1, S', M', n', z') → W p l e room_1 s m #[Value.ref b] below meth c H locs (n - n0) (z) (lw_Z below #[Value.ref b] s) (F0 m 18 ls [])) : ∀ (S : mSh) (M : mMm) (n z : Nat) (x1 : Nat) (x2 : Nat) (x3 : Int32) (H : Heap) (locs : List Loc) (ls : Array Slot), n0 ≤ n → mHp D n0 S M n s H locs → lv_has ls 4 [(0, .ref b), (1, .ref x1), (2, .ref x2), (3, .int x3)] → fb_L_law_779 V xs L k18 S M n z x1 x2 x3 = some (1, S', M', n', z') → W p l e room_1 s m #[Value.ref b] below meth c H locs (n - n0) (z) (lw_Z below #[Value.ref b] s) (F0 m 779 ls []) := by
  have hx := X.1.1
  have hb := X.1.2.1
  have hown := X.1.2.2.2.1
  have hts := X.1.2.2.2.2
  intro S M n z x1 x2 x3 H locs ls hn hp hl hF
  have hm0 := mn_L_law_779 _ hmk18 hF
  unfold fb_L_law_779 at hF
  refine lv_aload_n hx hb dL_law_779 rfl (lv_at hl 1 rfl) ?_
  refine lv_aload_n hx hb dL_law_780 rfl (lv_at hl 0 rfl) ?_
  refine lv_iload_n hx hb dL_law_781 rfl (lv_at hl 3 rfl) ?_
  refine lv_iconst (v := 1) hx hb dL_law_782 (by decide) ?_
  refine lv_iadd hx hb dL_law_783 ?_
  obtain ⟨g261, hF⟩ := gd_s hF
  refine va_sld hx hb hXs (by rw [hn0]; exact hbl) (fun h => Nat.not_le.mpr hbl h) hp.2 g261 dL_law_784 ?_
  refine lv_aload_n hx hb dL_law_785 rfl (lv_at hl 0 rfl) ?_
  refine lv_iload_n hx hb dL_law_786 rfl (lv_at hl 3 rfl) ?_
  refine lv_iconst (v := 2) hx hb dL_law_787 (by decide) ?_
  refine lv_iadd hx hb dL_law_788 ?_
  obtain ⟨g262, hF⟩ := gd_s hF
  refine va_sld hx hb hXs (by rw [hn0]; exact hbl) (fun h => Nat.not_le.mpr hbl h) hp.2 g262 dL_law_789 ?_
  obtain ⟨g263, hF⟩ := gd_s hF
  obtain ⟨v265, e264, hF⟩ := ob_s hF
  refine m_callV (As := [.int (xs (x3 + (1 : Int32)).toNatClampNeg), .int (xs (x3 + (2 : Int32)).toNatClampNeg)]) (rest := []) X hp (w_X0_seen e264) q1259 q1260 q1261 q132 q1262 2 rfl ds_X0_seen ⟨Nat.le_of_ble_eq_true rfl, Nat.le_of_ble_eq_true rfl⟩ 1 (T := TX0) (N := 30) rfl (by decide) g263 hl.1 rfl (Nat.le_of_ble_eq_true rfl) dL_law_790 ⟨by show _ + 0 ≤ 601024; omega, by show _ + 0 ≤ 7293034; omega⟩ (fun H locs hp => ?_)
  refine lv_aload_n hx hb dL_law_793 rfl (lv_at hl 2 rfl) ?_
  refine lv_aload_n hx hb dL_law_794 rfl (lv_at hl 0 rfl) ?_
  refine lv_iload_n hx hb dL_law_795 rfl (lv_at hl 3 rfl) ?_
  refine lv_iconst (v := 1) hx hb dL_law_796 (by decide) ?_
  refine lv_iadd hx hb dL_law_797 ?_
  obtain ⟨g266, hF⟩ := gd_s hF
  refine va_sld hx hb hXs (by rw [hn0]; exact hbl) (fun h => Nat.not_le.mpr hbl h) hp.2 g266 dL_law_798 ?_
  refine lv_aload_n hx hb dL_law_799 rfl (lv_at hl 0 rfl) ?_
  refine lv_iload_n hx hb dL_law_800 rfl (lv_at hl 3 rfl) ?_
  refine lv_iconst (v := 2) hx hb dL_law_801 (by decide) ?_
  refine lv_iadd hx hb dL_law_802 ?_
  obtain ⟨g267, hF⟩ := gd_s hF
  refine va_sld hx hb hXs (by rw [hn0]; exact hbl) (fun h => Nat.not_le.mpr hbl h) hp.2 g267 dL_law_803 ?_
  obtain ⟨g268, hF⟩ := gd_s hF
  obtain ⟨v270, e269, hF⟩ := ob_s hF
  refine m_callV (As := [.int (xs (x3 + (1 : Int32)).toNatClampNeg), .int (xs (x3 + (2 : Int32)).toNatClampNeg)]) (rest := [.int v265]) X hp (w_X5_seen e269) q1943 q1944 q1945 q144 q1946 2 rfl ds_X5_seen ⟨Nat.le_of_ble_eq_true rfl, Nat.le_of_ble_eq_true rfl⟩ 6 (T := TX5) (N := 40) rfl (by decide) g268 hl.1 rfl (Nat.le_of_ble_eq_true rfl) dL_law_804 ⟨by show _ + 0 ≤ 601024; omega, by show _ + 0 ≤ 7293034; omega⟩ (fun H locs hp => ?_)
  refine lv_icmp_eq (tgt := 1309) hx hb dL_law_807 (by decide) (fun c271 => ?_) (fun c271 => ?_)
  · have hF := if_p c271 hF
    exact b_L_law_1309 hV hVs hs hVx hn0 hXs hbl hbd X k18 hmk18 hk18 _ _ _ _ _ _ _ _ _ _ (by omega) hp (lv_sub hl [0, 1, 2, 3] rfl) hF
  · have hF := if_n c271 hF
    refine lv_iconst (v := 0) hx hb dL_law_810 (by decide) ?_
    exact absurd (lw_01 hF) (by decide)
def fb_L_law_812 (V : Nat → Nat) (xs : Nat → Int32) (L : Nat) (k18 : mSh → mMm → Nat → Nat → Nat → Nat → Int32 → Option (Int32 × mSh × mMm × Nat × Nat)) (S : mSh) (M : mMm) (n z : Nat) (x1 : Nat) (x2 : Nat) (x3 : Int32) : Option (Int32 × mSh × mMm × Nat × Nat) := gd (¬ ((x3 + (1 : Int32)) < 0 ∨ L ≤ (x3 + (1 : Int32)).toNatClampNeg)) (gd (¬ ((x3 + (2 : Int32)) < 0 ∨ L ≤ (x3 + (2 : Int32)).toNatClampNeg)) (gd ((S x1).1 = 1) (ob (f_X0_known S M x1 (xs (x3 + (1 : Int32)).toNatClampNeg) (xs (x3 + (2 : Int32)).toNatClampNeg)) fun ⟨v252, M253⟩ => gd (¬ ((x3 + (1 : Int32)) < 0 ∨ L ≤ (x3 + (1 : Int32)).toNatClampNeg)) (gd (¬ ((x3 + (2 : Int32)) < 0 ∨ L ≤ (x3 + (2 : Int32)).toNatClampNeg)) (gd ((S x2).1 = 6) (ob (f_X5_known S M253 x2 (xs (x3 + (1 : Int32)).toNatClampNeg) (xs (x3 + (2 : Int32)).toNatClampNeg)) fun ⟨v258, M259⟩ => (if v252 = v258 then (fb_L_law_1309 V xs L k18 S M259 n z x1 x2 x3) else some ((0 : Int32), S, M259, n, z))))))))
theorem mn_L_law_812 {S' : mSh} {M' : mMm} {n' z' : Nat} (k18 : mSh → mMm → Nat → Nat → Nat → Nat → Int32 → Option (Int32 × mSh × mMm × Nat × Nat)) (hmk18 : ∀ {S : mSh} {M : mMm} {n z : Nat} {x1 : Nat} {x2 : Nat} {x3 : Int32}, k18 S M n z x1 x2 x3 = some (1, S', M', n', z') → n ≤ n' ∧ z ≤ z') : ∀ {S : mSh} {M : mMm} {n z : Nat} {x1 : Nat} {x2 : Nat} {x3 : Int32}, fb_L_law_812 V xs L k18 S M n z x1 x2 x3 = some (1, S', M', n', z') → n ≤ n' ∧ z ≤ z' := by
  intro S M n z x1 x2 x3 hF
  unfold fb_L_law_812 at hF
  obtain ⟨g248, hF⟩ := gd_s hF
  obtain ⟨g249, hF⟩ := gd_s hF
  obtain ⟨g250, hF⟩ := gd_s hF
  obtain ⟨⟨v252, M253⟩, e251, hF⟩ := ob_s hF
  obtain ⟨g254, hF⟩ := gd_s hF
  obtain ⟨g255, hF⟩ := gd_s hF
  obtain ⟨g256, hF⟩ := gd_s hF
  obtain ⟨⟨v258, M259⟩, e257, hF⟩ := ob_s hF
  rcases Decidable.em (v252 = v258) with c260 | c260
  · have hF := if_p c260 hF
    have h9 := (mn_L_law_1309 (V := V) (xs := xs) (L := L) k18 hmk18) hF
    exact ⟨by omega, by omega⟩
  · have hF := if_n c260 hF
    exact absurd (lw_01 hF) (by decide)
theorem b_L_law_812 {S' : mSh} {M' : mMm} {n' z' : Nat} (hV : mV V n0 P) (hVs : mVs V n0 P) (hs : l.stackTraces = false) (hVx : mVx n0 P) (hn0 : s.heap.size = n0) (hXs : va_X b L xs s s.heap) (hbl : b < n0) (hbd : n' - n0 ≤ 601024 ∧ z' ≤ 7293034) (X : mCx D n0 P p m c cL_law 4 s #[Value.ref b] "WindingSquareLaw" meth (some .boolean)) (k18 : mSh → mMm → Nat → Nat → Nat → Nat → Int32 → Option (Int32 × mSh × mMm × Nat × Nat)) (hmk18 : ∀ {S : mSh} {M : mMm} {n z : Nat} {x1 : Nat} {x2 : Nat} {x3 : Int32}, k18 S M n z x1 x2 x3 = some (1, S', M', n', z') → n ≤ n' ∧ z ≤ z') (hk18 : ∀ (S : mSh) (M : mMm) (n z : Nat) (x1 : Nat) (x2 : Nat) (x3 : Int32) (H : Heap) (locs : List Loc) (ls : Array Slot), n0 ≤ n → mHp D n0 S M n s H locs → lv_has ls 4 [(0, .ref b), (1, .ref x1), (2, .ref x2), (3, .int x3)] → k18 S M n z x1 x2 x3 = some (1, S', M', n', z') → W p l e room_1 s m #[Value.ref b] below meth c H locs (n - n0) (z) (lw_Z below #[Value.ref b] s) (F0 m 18 ls [])) : ∀ (S : mSh) (M : mMm) (n z : Nat) (x1 : Nat) (x2 : Nat) (x3 : Int32) (H : Heap) (locs : List Loc) (ls : Array Slot), n0 ≤ n → mHp D n0 S M n s H locs → lv_has ls 4 [(0, .ref b), (1, .ref x1), (2, .ref x2), (3, .int x3)] → fb_L_law_812 V xs L k18 S M n z x1 x2 x3 = some (1, S', M', n', z') → W p l e room_1 s m #[Value.ref b] below meth c H locs (n - n0) (z) (lw_Z below #[Value.ref b] s) (F0 m 812 ls []) := by
  have hx := X.1.1
  have hb := X.1.2.1
  have hown := X.1.2.2.2.1
  have hts := X.1.2.2.2.2
  intro S M n z x1 x2 x3 H locs ls hn hp hl hF
  have hm0 := mn_L_law_812 _ hmk18 hF
  unfold fb_L_law_812 at hF
  refine lv_aload_n hx hb dL_law_812 rfl (lv_at hl 1 rfl) ?_
  refine lv_aload_n hx hb dL_law_813 rfl (lv_at hl 0 rfl) ?_
  refine lv_iload_n hx hb dL_law_814 rfl (lv_at hl 3 rfl) ?_
  refine lv_iconst (v := 1) hx hb dL_law_815 (by decide) ?_
  refine lv_iadd hx hb dL_law_816 ?_
  obtain ⟨g248, hF⟩ := gd_s hF
  refine va_sld hx hb hXs (by rw [hn0]; exact hbl) (fun h => Nat.not_le.mpr hbl h) hp.2 g248 dL_law_817 ?_
  refine lv_aload_n hx hb dL_law_818 rfl (lv_at hl 0 rfl) ?_
  refine lv_iload_n hx hb dL_law_819 rfl (lv_at hl 3 rfl) ?_
  refine lv_iconst (v := 2) hx hb dL_law_820 (by decide) ?_
  refine lv_iadd hx hb dL_law_821 ?_
  obtain ⟨g249, hF⟩ := gd_s hF
  refine va_sld hx hb hXs (by rw [hn0]; exact hbl) (fun h => Nat.not_le.mpr hbl h) hp.2 g249 dL_law_822 ?_
  obtain ⟨g250, hF⟩ := gd_s hF
  obtain ⟨⟨v252, M253⟩, e251, hF⟩ := ob_s hF
  refine m_callV (As := [.int (xs (x3 + (1 : Int32)).toNatClampNeg), .int (xs (x3 + (2 : Int32)).toNatClampNeg)]) (rest := []) X hp (w_X0_known e251) q1276 q1277 q1278 q132 q1279 2 rfl ds_X0_known ⟨Nat.le_of_ble_eq_true rfl, Nat.le_of_ble_eq_true rfl⟩ 1 (T := TX0) (N := 30) rfl (by decide) g250 hl.1 rfl (Nat.le_of_ble_eq_true rfl) dL_law_823 ⟨by show _ + 0 ≤ 601024; omega, by show _ + 0 ≤ 7293034; omega⟩ (fun H locs hp => ?_)
  refine lv_aload_n hx hb dL_law_826 rfl (lv_at hl 2 rfl) ?_
  refine lv_aload_n hx hb dL_law_827 rfl (lv_at hl 0 rfl) ?_
  refine lv_iload_n hx hb dL_law_828 rfl (lv_at hl 3 rfl) ?_
  refine lv_iconst (v := 1) hx hb dL_law_829 (by decide) ?_
  refine lv_iadd hx hb dL_law_830 ?_
  obtain ⟨g254, hF⟩ := gd_s hF
  refine va_sld hx hb hXs (by rw [hn0]; exact hbl) (fun h => Nat.not_le.mpr hbl h) hp.2 g254 dL_law_831 ?_
  refine lv_aload_n hx hb dL_law_832 rfl (lv_at hl 0 rfl) ?_
  refine lv_iload_n hx hb dL_law_833 rfl (lv_at hl 3 rfl) ?_
  refine lv_iconst (v := 2) hx hb dL_law_834 (by decide) ?_
  refine lv_iadd hx hb dL_law_835 ?_
  obtain ⟨g255, hF⟩ := gd_s hF
  refine va_sld hx hb hXs (by rw [hn0]; exact hbl) (fun h => Nat.not_le.mpr hbl h) hp.2 g255 dL_law_836 ?_
  obtain ⟨g256, hF⟩ := gd_s hF
  obtain ⟨⟨v258, M259⟩, e257, hF⟩ := ob_s hF
  refine m_callV (As := [.int (xs (x3 + (1 : Int32)).toNatClampNeg), .int (xs (x3 + (2 : Int32)).toNatClampNeg)]) (rest := [.int v252]) X hp (w_X5_known e257) q1957 q1958 q1959 q144 q1960 2 rfl ds_X5_known ⟨Nat.le_of_ble_eq_true rfl, Nat.le_of_ble_eq_true rfl⟩ 6 (T := TX5) (N := 40) rfl (by decide) g256 hl.1 rfl (Nat.le_of_ble_eq_true rfl) dL_law_837 ⟨by show _ + 0 ≤ 601024; omega, by show _ + 0 ≤ 7293034; omega⟩ (fun H locs hp => ?_)
  refine lv_icmp_eq (tgt := 1309) hx hb dL_law_840 (by decide) (fun c260 => ?_) (fun c260 => ?_)
  · have hF := if_p c260 hF
    exact b_L_law_1309 hV hVs hs hVx hn0 hXs hbl hbd X k18 hmk18 hk18 _ _ _ _ _ _ _ _ _ _ (by omega) hp (lv_sub hl [0, 1, 2, 3] rfl) hF
  · have hF := if_n c260 hF
    refine lv_iconst (v := 0) hx hb dL_law_843 (by decide) ?_
    exact absurd (lw_01 hF) (by decide)
def fb_L_law_845 (V : Nat → Nat) (xs : Nat → Int32) (L : Nat) (k18 : mSh → mMm → Nat → Nat → Nat → Nat → Int32 → Option (Int32 × mSh × mMm × Nat × Nat)) (S : mSh) (M : mMm) (n z : Nat) (x1 : Nat) (x2 : Nat) (x3 : Int32) : Option (Int32 × mSh × mMm × Nat × Nat) := gd (¬ ((x3 + (1 : Int32)) < 0 ∨ L ≤ (x3 + (1 : Int32)).toNatClampNeg)) (gd ((S x1).1 = 1) (ob (f_X0_one S M x1 (xs (x3 + (1 : Int32)).toNatClampNeg)) fun v242 => gd (¬ ((x3 + (1 : Int32)) < 0 ∨ L ≤ (x3 + (1 : Int32)).toNatClampNeg)) (gd ((S x2).1 = 6) (ob (f_X5_one S M x2 (xs (x3 + (1 : Int32)).toNatClampNeg)) fun v246 => (if v242 = v246 then (fb_L_law_1309 V xs L k18 S M n z x1 x2 x3) else some ((0 : Int32), S, M, n, z))))))
theorem mn_L_law_845 {S' : mSh} {M' : mMm} {n' z' : Nat} (k18 : mSh → mMm → Nat → Nat → Nat → Nat → Int32 → Option (Int32 × mSh × mMm × Nat × Nat)) (hmk18 : ∀ {S : mSh} {M : mMm} {n z : Nat} {x1 : Nat} {x2 : Nat} {x3 : Int32}, k18 S M n z x1 x2 x3 = some (1, S', M', n', z') → n ≤ n' ∧ z ≤ z') : ∀ {S : mSh} {M : mMm} {n z : Nat} {x1 : Nat} {x2 : Nat} {x3 : Int32}, fb_L_law_845 V xs L k18 S M n z x1 x2 x3 = some (1, S', M', n', z') → n ≤ n' ∧ z ≤ z' := by
  intro S M n z x1 x2 x3 hF
  unfold fb_L_law_845 at hF
  obtain ⟨g239, hF⟩ := gd_s hF
  obtain ⟨g240, hF⟩ := gd_s hF
  obtain ⟨v242, e241, hF⟩ := ob_s hF
  obtain ⟨g243, hF⟩ := gd_s hF
  obtain ⟨g244, hF⟩ := gd_s hF
  obtain ⟨v246, e245, hF⟩ := ob_s hF
  rcases Decidable.em (v242 = v246) with c247 | c247
  · have hF := if_p c247 hF
    have h9 := (mn_L_law_1309 (V := V) (xs := xs) (L := L) k18 hmk18) hF
    exact ⟨by omega, by omega⟩
  · have hF := if_n c247 hF
    exact absurd (lw_01 hF) (by decide)
theorem b_L_law_845 {S' : mSh} {M' : mMm} {n' z' : Nat} (hV : mV V n0 P) (hVs : mVs V n0 P) (hs : l.stackTraces = false) (hVx : mVx n0 P) (hn0 : s.heap.size = n0) (hXs : va_X b L xs s s.heap) (hbl : b < n0) (hbd : n' - n0 ≤ 601024 ∧ z' ≤ 7293034) (X : mCx D n0 P p m c cL_law 4 s #[Value.ref b] "WindingSquareLaw" meth (some .boolean)) (k18 : mSh → mMm → Nat → Nat → Nat → Nat → Int32 → Option (Int32 × mSh × mMm × Nat × Nat)) (hmk18 : ∀ {S : mSh} {M : mMm} {n z : Nat} {x1 : Nat} {x2 : Nat} {x3 : Int32}, k18 S M n z x1 x2 x3 = some (1, S', M', n', z') → n ≤ n' ∧ z ≤ z') (hk18 : ∀ (S : mSh) (M : mMm) (n z : Nat) (x1 : Nat) (x2 : Nat) (x3 : Int32) (H : Heap) (locs : List Loc) (ls : Array Slot), n0 ≤ n → mHp D n0 S M n s H locs → lv_has ls 4 [(0, .ref b), (1, .ref x1), (2, .ref x2), (3, .int x3)] → k18 S M n z x1 x2 x3 = some (1, S', M', n', z') → W p l e room_1 s m #[Value.ref b] below meth c H locs (n - n0) (z) (lw_Z below #[Value.ref b] s) (F0 m 18 ls [])) : ∀ (S : mSh) (M : mMm) (n z : Nat) (x1 : Nat) (x2 : Nat) (x3 : Int32) (H : Heap) (locs : List Loc) (ls : Array Slot), n0 ≤ n → mHp D n0 S M n s H locs → lv_has ls 4 [(0, .ref b), (1, .ref x1), (2, .ref x2), (3, .int x3)] → fb_L_law_845 V xs L k18 S M n z x1 x2 x3 = some (1, S', M', n', z') → W p l e room_1 s m #[Value.ref b] below meth c H locs (n - n0) (z) (lw_Z below #[Value.ref b] s) (F0 m 845 ls []) := by
  have hx := X.1.1
  have hb := X.1.2.1
  have hown := X.1.2.2.2.1
  have hts := X.1.2.2.2.2
  intro S M n z x1 x2 x3 H locs ls hn hp hl hF
  have hm0 := mn_L_law_845 _ hmk18 hF
  unfold fb_L_law_845 at hF
  refine lv_aload_n hx hb dL_law_845 rfl (lv_at hl 1 rfl) ?_
  refine lv_aload_n hx hb dL_law_846 rfl (lv_at hl 0 rfl) ?_
  refine lv_iload_n hx hb dL_law_847 rfl (lv_at hl 3 rfl) ?_
  refine lv_iconst (v := 1) hx hb dL_law_848 (by decide) ?_
  refine lv_iadd hx hb dL_law_849 ?_
  obtain ⟨g239, hF⟩ := gd_s hF
  refine va_sld hx hb hXs (by rw [hn0]; exact hbl) (fun h => Nat.not_le.mpr hbl h) hp.2 g239 dL_law_850 ?_
  obtain ⟨g240, hF⟩ := gd_s hF
  obtain ⟨v242, e241, hF⟩ := ob_s hF
  refine m_callV (As := [.int (xs (x3 + (1 : Int32)).toNatClampNeg)]) (rest := []) X hp (w_X0_one e241) q1288 q1289 q1290 q132 q1291 1 rfl ds_X0_one ⟨Nat.le_of_ble_eq_true rfl, Nat.le_of_ble_eq_true rfl⟩ 1 (T := TX0) (N := 30) rfl (by decide) g240 hl.1 rfl (Nat.le_of_ble_eq_true rfl) dL_law_851 ⟨by show _ + 0 ≤ 601024; omega, by show _ + 0 ≤ 7293034; omega⟩ (fun H locs hp => ?_)
  refine lv_aload_n hx hb dL_law_854 rfl (lv_at hl 2 rfl) ?_
  refine lv_aload_n hx hb dL_law_855 rfl (lv_at hl 0 rfl) ?_
  refine lv_iload_n hx hb dL_law_856 rfl (lv_at hl 3 rfl) ?_
  refine lv_iconst (v := 1) hx hb dL_law_857 (by decide) ?_
  refine lv_iadd hx hb dL_law_858 ?_
  obtain ⟨g243, hF⟩ := gd_s hF
  refine va_sld hx hb hXs (by rw [hn0]; exact hbl) (fun h => Nat.not_le.mpr hbl h) hp.2 g243 dL_law_859 ?_
  obtain ⟨g244, hF⟩ := gd_s hF
  obtain ⟨v246, e245, hF⟩ := ob_s hF
  refine m_callV (As := [.int (xs (x3 + (1 : Int32)).toNatClampNeg)]) (rest := [.int v242]) X hp (w_X5_one e245) q1961 q1962 q1963 q144 q1964 1 rfl ds_X5_one ⟨Nat.le_of_ble_eq_true rfl, Nat.le_of_ble_eq_true rfl⟩ 6 (T := TX5) (N := 40) rfl (by decide) g244 hl.1 rfl (Nat.le_of_ble_eq_true rfl) dL_law_860 ⟨by show _ + 0 ≤ 601024; omega, by show _ + 0 ≤ 7293034; omega⟩ (fun H locs hp => ?_)
  refine lv_icmp_eq (tgt := 1309) hx hb dL_law_863 (by decide) (fun c247 => ?_) (fun c247 => ?_)
  · have hF := if_p c247 hF
    exact b_L_law_1309 hV hVs hs hVx hn0 hXs hbl hbd X k18 hmk18 hk18 _ _ _ _ _ _ _ _ _ _ (by omega) hp (lv_sub hl [0, 1, 2, 3] rfl) hF
  · have hF := if_n c247 hF
    refine lv_iconst (v := 0) hx hb dL_law_866 (by decide) ?_
    exact absurd (lw_01 hF) (by decide)
def fb_L_law_868 (V : Nat → Nat) (xs : Nat → Int32) (L : Nat) (k18 : mSh → mMm → Nat → Nat → Nat → Nat → Int32 → Option (Int32 × mSh × mMm × Nat × Nat)) (S : mSh) (M : mMm) (n z : Nat) (x1 : Nat) (x2 : Nat) (x3 : Int32) : Option (Int32 × mSh × mMm × Nat × Nat) := gd (¬ ((x3 + (1 : Int32)) < 0 ∨ L ≤ (x3 + (1 : Int32)).toNatClampNeg)) (gd ((S x1).1 = 1) (ob (f_X0_move S M x1 (xs (x3 + (1 : Int32)).toNatClampNeg)) fun ⟨v231, M232⟩ => gd (¬ ((x3 + (1 : Int32)) < 0 ∨ L ≤ (x3 + (1 : Int32)).toNatClampNeg)) (gd ((S x2).1 = 6) (ob (f_X5_move S M232 x2 (xs (x3 + (1 : Int32)).toNatClampNeg)) fun ⟨v236, M237⟩ => (if v231 = v236 then (fb_L_law_1309 V xs L k18 S M237 n z x1 x2 x3) else some ((0 : Int32), S, M237, n, z))))))
theorem mn_L_law_868 {S' : mSh} {M' : mMm} {n' z' : Nat} (k18 : mSh → mMm → Nat → Nat → Nat → Nat → Int32 → Option (Int32 × mSh × mMm × Nat × Nat)) (hmk18 : ∀ {S : mSh} {M : mMm} {n z : Nat} {x1 : Nat} {x2 : Nat} {x3 : Int32}, k18 S M n z x1 x2 x3 = some (1, S', M', n', z') → n ≤ n' ∧ z ≤ z') : ∀ {S : mSh} {M : mMm} {n z : Nat} {x1 : Nat} {x2 : Nat} {x3 : Int32}, fb_L_law_868 V xs L k18 S M n z x1 x2 x3 = some (1, S', M', n', z') → n ≤ n' ∧ z ≤ z' := by
  intro S M n z x1 x2 x3 hF
  unfold fb_L_law_868 at hF
  obtain ⟨g228, hF⟩ := gd_s hF
  obtain ⟨g229, hF⟩ := gd_s hF
  obtain ⟨⟨v231, M232⟩, e230, hF⟩ := ob_s hF
  obtain ⟨g233, hF⟩ := gd_s hF
  obtain ⟨g234, hF⟩ := gd_s hF
  obtain ⟨⟨v236, M237⟩, e235, hF⟩ := ob_s hF
  rcases Decidable.em (v231 = v236) with c238 | c238
  · have hF := if_p c238 hF
    have h9 := (mn_L_law_1309 (V := V) (xs := xs) (L := L) k18 hmk18) hF
    exact ⟨by omega, by omega⟩
  · have hF := if_n c238 hF
    exact absurd (lw_01 hF) (by decide)
theorem b_L_law_868 {S' : mSh} {M' : mMm} {n' z' : Nat} (hV : mV V n0 P) (hVs : mVs V n0 P) (hs : l.stackTraces = false) (hVx : mVx n0 P) (hn0 : s.heap.size = n0) (hXs : va_X b L xs s s.heap) (hbl : b < n0) (hbd : n' - n0 ≤ 601024 ∧ z' ≤ 7293034) (X : mCx D n0 P p m c cL_law 4 s #[Value.ref b] "WindingSquareLaw" meth (some .boolean)) (k18 : mSh → mMm → Nat → Nat → Nat → Nat → Int32 → Option (Int32 × mSh × mMm × Nat × Nat)) (hmk18 : ∀ {S : mSh} {M : mMm} {n z : Nat} {x1 : Nat} {x2 : Nat} {x3 : Int32}, k18 S M n z x1 x2 x3 = some (1, S', M', n', z') → n ≤ n' ∧ z ≤ z') (hk18 : ∀ (S : mSh) (M : mMm) (n z : Nat) (x1 : Nat) (x2 : Nat) (x3 : Int32) (H : Heap) (locs : List Loc) (ls : Array Slot), n0 ≤ n → mHp D n0 S M n s H locs → lv_has ls 4 [(0, .ref b), (1, .ref x1), (2, .ref x2), (3, .int x3)] → k18 S M n z x1 x2 x3 = some (1, S', M', n', z') → W p l e room_1 s m #[Value.ref b] below meth c H locs (n - n0) (z) (lw_Z below #[Value.ref b] s) (F0 m 18 ls [])) : ∀ (S : mSh) (M : mMm) (n z : Nat) (x1 : Nat) (x2 : Nat) (x3 : Int32) (H : Heap) (locs : List Loc) (ls : Array Slot), n0 ≤ n → mHp D n0 S M n s H locs → lv_has ls 4 [(0, .ref b), (1, .ref x1), (2, .ref x2), (3, .int x3)] → fb_L_law_868 V xs L k18 S M n z x1 x2 x3 = some (1, S', M', n', z') → W p l e room_1 s m #[Value.ref b] below meth c H locs (n - n0) (z) (lw_Z below #[Value.ref b] s) (F0 m 868 ls []) := by
  have hx := X.1.1
  have hb := X.1.2.1
  have hown := X.1.2.2.2.1
  have hts := X.1.2.2.2.2
  intro S M n z x1 x2 x3 H locs ls hn hp hl hF
  have hm0 := mn_L_law_868 _ hmk18 hF
  unfold fb_L_law_868 at hF
  refine lv_aload_n hx hb dL_law_868 rfl (lv_at hl 1 rfl) ?_
  refine lv_aload_n hx hb dL_law_869 rfl (lv_at hl 0 rfl) ?_
  refine lv_iload_n hx hb dL_law_870 rfl (lv_at hl 3 rfl) ?_
  refine lv_iconst (v := 1) hx hb dL_law_871 (by decide) ?_
  refine lv_iadd hx hb dL_law_872 ?_
  obtain ⟨g228, hF⟩ := gd_s hF
  refine va_sld hx hb hXs (by rw [hn0]; exact hbl) (fun h => Nat.not_le.mpr hbl h) hp.2 g228 dL_law_873 ?_
  obtain ⟨g229, hF⟩ := gd_s hF
  obtain ⟨⟨v231, M232⟩, e230, hF⟩ := ob_s hF
  refine m_callV (As := [.int (xs (x3 + (1 : Int32)).toNatClampNeg)]) (rest := []) X hp (w_X0_move e230) q1312 q1313 q1314 q132 q1315 1 rfl ds_X0_move ⟨Nat.le_of_ble_eq_true rfl, Nat.le_of_ble_eq_true rfl⟩ 1 (T := TX0) (N := 30) rfl (by decide) g229 hl.1 rfl (Nat.le_of_ble_eq_true rfl) dL_law_874 ⟨by show _ + 0 ≤ 601024; omega, by show _ + 0 ≤ 7293034; omega⟩ (fun H locs hp => ?_)
  refine lv_aload_n hx hb dL_law_877 rfl (lv_at hl 2 rfl) ?_
  refine lv_aload_n hx hb dL_law_878 rfl (lv_at hl 0 rfl) ?_
  refine lv_iload_n hx hb dL_law_879 rfl (lv_at hl 3 rfl) ?_
  refine lv_iconst (v := 1) hx hb dL_law_880 (by decide) ?_
  refine lv_iadd hx hb dL_law_881 ?_
  obtain ⟨g233, hF⟩ := gd_s hF
  refine va_sld hx hb hXs (by rw [hn0]; exact hbl) (fun h => Nat.not_le.mpr hbl h) hp.2 g233 dL_law_882 ?_
  obtain ⟨g234, hF⟩ := gd_s hF
  obtain ⟨⟨v236, M237⟩, e235, hF⟩ := ob_s hF
  refine m_callV (As := [.int (xs (x3 + (1 : Int32)).toNatClampNeg)]) (rest := [.int v231]) X hp (w_X5_move e235) q1973 q1974 q1975 q144 q1976 1 rfl ds_X5_move ⟨Nat.le_of_ble_eq_true rfl, Nat.le_of_ble_eq_true rfl⟩ 6 (T := TX5) (N := 40) rfl (by decide) g234 hl.1 rfl (Nat.le_of_ble_eq_true rfl) dL_law_883 ⟨by show _ + 0 ≤ 601024; omega, by show _ + 0 ≤ 7293034; omega⟩ (fun H locs hp => ?_)
  refine lv_icmp_eq (tgt := 1309) hx hb dL_law_886 (by decide) (fun c238 => ?_) (fun c238 => ?_)
  · have hF := if_p c238 hF
    exact b_L_law_1309 hV hVs hs hVx hn0 hXs hbl hbd X k18 hmk18 hk18 _ _ _ _ _ _ _ _ _ _ (by omega) hp (lv_sub hl [0, 1, 2, 3] rfl) hF
  · have hF := if_n c238 hF
    refine lv_iconst (v := 0) hx hb dL_law_889 (by decide) ?_
    exact absurd (lw_01 hF) (by decide)
def fb_L_law_891 (V : Nat → Nat) (xs : Nat → Int32) (L : Nat) (k18 : mSh → mMm → Nat → Nat → Nat → Nat → Int32 → Option (Int32 × mSh × mMm × Nat × Nat)) (S : mSh) (M : mMm) (n z : Nat) (x1 : Nat) (x2 : Nat) (x3 : Int32) : Option (Int32 × mSh × mMm × Nat × Nat) := gd (¬ ((x3 + (1 : Int32)) < 0 ∨ L ≤ (x3 + (1 : Int32)).toNatClampNeg)) (gd ((S x1).1 = 1) (ob (f_X0_round S M x1 (xs (x3 + (1 : Int32)).toNatClampNeg)) fun ⟨v220, M221⟩ => gd (¬ ((x3 + (1 : Int32)) < 0 ∨ L ≤ (x3 + (1 : Int32)).toNatClampNeg)) (gd ((S x2).1 = 6) (ob (f_X5_round S M221 x2 (xs (x3 + (1 : Int32)).toNatClampNeg)) fun ⟨v225, M226⟩ => (if v220 = v225 then (fb_L_law_1309 V xs L k18 S M226 n z x1 x2 x3) else some ((0 : Int32), S, M226, n, z))))))
theorem mn_L_law_891 {S' : mSh} {M' : mMm} {n' z' : Nat} (k18 : mSh → mMm → Nat → Nat → Nat → Nat → Int32 → Option (Int32 × mSh × mMm × Nat × Nat)) (hmk18 : ∀ {S : mSh} {M : mMm} {n z : Nat} {x1 : Nat} {x2 : Nat} {x3 : Int32}, k18 S M n z x1 x2 x3 = some (1, S', M', n', z') → n ≤ n' ∧ z ≤ z') : ∀ {S : mSh} {M : mMm} {n z : Nat} {x1 : Nat} {x2 : Nat} {x3 : Int32}, fb_L_law_891 V xs L k18 S M n z x1 x2 x3 = some (1, S', M', n', z') → n ≤ n' ∧ z ≤ z' := by
  intro S M n z x1 x2 x3 hF
  unfold fb_L_law_891 at hF
  obtain ⟨g217, hF⟩ := gd_s hF
  obtain ⟨g218, hF⟩ := gd_s hF
  obtain ⟨⟨v220, M221⟩, e219, hF⟩ := ob_s hF
  obtain ⟨g222, hF⟩ := gd_s hF
  obtain ⟨g223, hF⟩ := gd_s hF
  obtain ⟨⟨v225, M226⟩, e224, hF⟩ := ob_s hF
  rcases Decidable.em (v220 = v225) with c227 | c227
  · have hF := if_p c227 hF
    have h9 := (mn_L_law_1309 (V := V) (xs := xs) (L := L) k18 hmk18) hF
    exact ⟨by omega, by omega⟩
  · have hF := if_n c227 hF
    exact absurd (lw_01 hF) (by decide)
theorem b_L_law_891 {S' : mSh} {M' : mMm} {n' z' : Nat} (hV : mV V n0 P) (hVs : mVs V n0 P) (hs : l.stackTraces = false) (hVx : mVx n0 P) (hn0 : s.heap.size = n0) (hXs : va_X b L xs s s.heap) (hbl : b < n0) (hbd : n' - n0 ≤ 601024 ∧ z' ≤ 7293034) (X : mCx D n0 P p m c cL_law 4 s #[Value.ref b] "WindingSquareLaw" meth (some .boolean)) (k18 : mSh → mMm → Nat → Nat → Nat → Nat → Int32 → Option (Int32 × mSh × mMm × Nat × Nat)) (hmk18 : ∀ {S : mSh} {M : mMm} {n z : Nat} {x1 : Nat} {x2 : Nat} {x3 : Int32}, k18 S M n z x1 x2 x3 = some (1, S', M', n', z') → n ≤ n' ∧ z ≤ z') (hk18 : ∀ (S : mSh) (M : mMm) (n z : Nat) (x1 : Nat) (x2 : Nat) (x3 : Int32) (H : Heap) (locs : List Loc) (ls : Array Slot), n0 ≤ n → mHp D n0 S M n s H locs → lv_has ls 4 [(0, .ref b), (1, .ref x1), (2, .ref x2), (3, .int x3)] → k18 S M n z x1 x2 x3 = some (1, S', M', n', z') → W p l e room_1 s m #[Value.ref b] below meth c H locs (n - n0) (z) (lw_Z below #[Value.ref b] s) (F0 m 18 ls [])) : ∀ (S : mSh) (M : mMm) (n z : Nat) (x1 : Nat) (x2 : Nat) (x3 : Int32) (H : Heap) (locs : List Loc) (ls : Array Slot), n0 ≤ n → mHp D n0 S M n s H locs → lv_has ls 4 [(0, .ref b), (1, .ref x1), (2, .ref x2), (3, .int x3)] → fb_L_law_891 V xs L k18 S M n z x1 x2 x3 = some (1, S', M', n', z') → W p l e room_1 s m #[Value.ref b] below meth c H locs (n - n0) (z) (lw_Z below #[Value.ref b] s) (F0 m 891 ls []) := by
  have hx := X.1.1
  have hb := X.1.2.1
  have hown := X.1.2.2.2.1
  have hts := X.1.2.2.2.2
  intro S M n z x1 x2 x3 H locs ls hn hp hl hF
  have hm0 := mn_L_law_891 _ hmk18 hF
  unfold fb_L_law_891 at hF
  refine lv_aload_n hx hb dL_law_891 rfl (lv_at hl 1 rfl) ?_
  refine lv_aload_n hx hb dL_law_892 rfl (lv_at hl 0 rfl) ?_
  refine lv_iload_n hx hb dL_law_893 rfl (lv_at hl 3 rfl) ?_
  refine lv_iconst (v := 1) hx hb dL_law_894 (by decide) ?_
  refine lv_iadd hx hb dL_law_895 ?_
  obtain ⟨g217, hF⟩ := gd_s hF
  refine va_sld hx hb hXs (by rw [hn0]; exact hbl) (fun h => Nat.not_le.mpr hbl h) hp.2 g217 dL_law_896 ?_
  obtain ⟨g218, hF⟩ := gd_s hF
  obtain ⟨⟨v220, M221⟩, e219, hF⟩ := ob_s hF
  refine m_callV (As := [.int (xs (x3 + (1 : Int32)).toNatClampNeg)]) (rest := []) X hp (w_X0_round e219) q1316 q1317 q1318 q132 q1319 1 rfl ds_X0_round ⟨Nat.le_of_ble_eq_true rfl, Nat.le_of_ble_eq_true rfl⟩ 1 (T := TX0) (N := 30) rfl (by decide) g218 hl.1 rfl (Nat.le_of_ble_eq_true rfl) dL_law_897 ⟨by show _ + 0 ≤ 601024; omega, by show _ + 0 ≤ 7293034; omega⟩ (fun H locs hp => ?_)
  refine lv_aload_n hx hb dL_law_900 rfl (lv_at hl 2 rfl) ?_
  refine lv_aload_n hx hb dL_law_901 rfl (lv_at hl 0 rfl) ?_
  refine lv_iload_n hx hb dL_law_902 rfl (lv_at hl 3 rfl) ?_
  refine lv_iconst (v := 1) hx hb dL_law_903 (by decide) ?_
  refine lv_iadd hx hb dL_law_904 ?_
  obtain ⟨g222, hF⟩ := gd_s hF
  refine va_sld hx hb hXs (by rw [hn0]; exact hbl) (fun h => Nat.not_le.mpr hbl h) hp.2 g222 dL_law_905 ?_
  obtain ⟨g223, hF⟩ := gd_s hF
  obtain ⟨⟨v225, M226⟩, e224, hF⟩ := ob_s hF
  refine m_callV (As := [.int (xs (x3 + (1 : Int32)).toNatClampNeg)]) (rest := [.int v220]) X hp (w_X5_round e224) q1977 q1978 q1979 q144 q1980 1 rfl ds_X5_round ⟨Nat.le_of_ble_eq_true rfl, Nat.le_of_ble_eq_true rfl⟩ 6 (T := TX5) (N := 40) rfl (by decide) g223 hl.1 rfl (Nat.le_of_ble_eq_true rfl) dL_law_906 ⟨by show _ + 0 ≤ 601024; omega, by show _ + 0 ≤ 7293034; omega⟩ (fun H locs hp => ?_)
  refine lv_icmp_eq (tgt := 1309) hx hb dL_law_909 (by decide) (fun c227 => ?_) (fun c227 => ?_)
  · have hF := if_p c227 hF
    exact b_L_law_1309 hV hVs hs hVx hn0 hXs hbl hbd X k18 hmk18 hk18 _ _ _ _ _ _ _ _ _ _ (by omega) hp (lv_sub hl [0, 1, 2, 3] rfl) hF
  · have hF := if_n c227 hF
    refine lv_iconst (v := 0) hx hb dL_law_912 (by decide) ?_
    exact absurd (lw_01 hF) (by decide)
def fb_L_law_914 (V : Nat → Nat) (xs : Nat → Int32) (L : Nat) (k18 : mSh → mMm → Nat → Nat → Nat → Nat → Int32 → Option (Int32 × mSh × mMm × Nat × Nat)) (S : mSh) (M : mMm) (n z : Nat) (x1 : Nat) (x2 : Nat) (x3 : Int32) : Option (Int32 × mSh × mMm × Nat × Nat) := gd (¬ ((x3 + (1 : Int32)) < 0 ∨ L ≤ (x3 + (1 : Int32)).toNatClampNeg)) (gd (¬ ((x3 + (2 : Int32)) < 0 ∨ L ≤ (x3 + (2 : Int32)).toNatClampNeg)) (gd (¬ ((x3 + (3 : Int32)) < 0 ∨ L ≤ (x3 + (3 : Int32)).toNatClampNeg)) (gd ((S x1).1 = 1) (ob (f_X0_folded x1 (xs (x3 + (1 : Int32)).toNatClampNeg) (xs (x3 + (2 : Int32)).toNatClampNeg) (xs (x3 + (3 : Int32)).toNatClampNeg)) fun v209 => gd (¬ ((x3 + (1 : Int32)) < 0 ∨ L ≤ (x3 + (1 : Int32)).toNatClampNeg)) (gd (¬ ((x3 + (2 : Int32)) < 0 ∨ L ≤ (x3 + (2 : Int32)).toNatClampNeg)) (gd (¬ ((x3 + (3 : Int32)) < 0 ∨ L ≤ (x3 + (3 : Int32)).toNatClampNeg)) (gd ((S x2).1 = 6) (ob (f_X5_folded x2 (xs (x3 + (1 : Int32)).toNatClampNeg) (xs (x3 + (2 : Int32)).toNatClampNeg) (xs (x3 + (3 : Int32)).toNatClampNeg)) fun v215 => (if v209 = v215 then (fb_L_law_1309 V xs L k18 S M n z x1 x2 x3) else some ((0 : Int32), S, M, n, z))))))))))
theorem mn_L_law_914 {S' : mSh} {M' : mMm} {n' z' : Nat} (k18 : mSh → mMm → Nat → Nat → Nat → Nat → Int32 → Option (Int32 × mSh × mMm × Nat × Nat)) (hmk18 : ∀ {S : mSh} {M : mMm} {n z : Nat} {x1 : Nat} {x2 : Nat} {x3 : Int32}, k18 S M n z x1 x2 x3 = some (1, S', M', n', z') → n ≤ n' ∧ z ≤ z') : ∀ {S : mSh} {M : mMm} {n z : Nat} {x1 : Nat} {x2 : Nat} {x3 : Int32}, fb_L_law_914 V xs L k18 S M n z x1 x2 x3 = some (1, S', M', n', z') → n ≤ n' ∧ z ≤ z' := by
  intro S M n z x1 x2 x3 hF
  unfold fb_L_law_914 at hF
  obtain ⟨g204, hF⟩ := gd_s hF
  obtain ⟨g205, hF⟩ := gd_s hF
  obtain ⟨g206, hF⟩ := gd_s hF
  obtain ⟨g207, hF⟩ := gd_s hF
  obtain ⟨v209, e208, hF⟩ := ob_s hF
  obtain ⟨g210, hF⟩ := gd_s hF
  obtain ⟨g211, hF⟩ := gd_s hF
  obtain ⟨g212, hF⟩ := gd_s hF
  obtain ⟨g213, hF⟩ := gd_s hF
  obtain ⟨v215, e214, hF⟩ := ob_s hF
  rcases Decidable.em (v209 = v215) with c216 | c216
  · have hF := if_p c216 hF
    have h9 := (mn_L_law_1309 (V := V) (xs := xs) (L := L) k18 hmk18) hF
    exact ⟨by omega, by omega⟩
  · have hF := if_n c216 hF
    exact absurd (lw_01 hF) (by decide)
theorem b_L_law_914 {S' : mSh} {M' : mMm} {n' z' : Nat} (hV : mV V n0 P) (hVs : mVs V n0 P) (hs : l.stackTraces = false) (hVx : mVx n0 P) (hn0 : s.heap.size = n0) (hXs : va_X b L xs s s.heap) (hbl : b < n0) (hbd : n' - n0 ≤ 601024 ∧ z' ≤ 7293034) (X : mCx D n0 P p m c cL_law 4 s #[Value.ref b] "WindingSquareLaw" meth (some .boolean)) (k18 : mSh → mMm → Nat → Nat → Nat → Nat → Int32 → Option (Int32 × mSh × mMm × Nat × Nat)) (hmk18 : ∀ {S : mSh} {M : mMm} {n z : Nat} {x1 : Nat} {x2 : Nat} {x3 : Int32}, k18 S M n z x1 x2 x3 = some (1, S', M', n', z') → n ≤ n' ∧ z ≤ z') (hk18 : ∀ (S : mSh) (M : mMm) (n z : Nat) (x1 : Nat) (x2 : Nat) (x3 : Int32) (H : Heap) (locs : List Loc) (ls : Array Slot), n0 ≤ n → mHp D n0 S M n s H locs → lv_has ls 4 [(0, .ref b), (1, .ref x1), (2, .ref x2), (3, .int x3)] → k18 S M n z x1 x2 x3 = some (1, S', M', n', z') → W p l e room_1 s m #[Value.ref b] below meth c H locs (n - n0) (z) (lw_Z below #[Value.ref b] s) (F0 m 18 ls [])) : ∀ (S : mSh) (M : mMm) (n z : Nat) (x1 : Nat) (x2 : Nat) (x3 : Int32) (H : Heap) (locs : List Loc) (ls : Array Slot), n0 ≤ n → mHp D n0 S M n s H locs → lv_has ls 4 [(0, .ref b), (1, .ref x1), (2, .ref x2), (3, .int x3)] → fb_L_law_914 V xs L k18 S M n z x1 x2 x3 = some (1, S', M', n', z') → W p l e room_1 s m #[Value.ref b] below meth c H locs (n - n0) (z) (lw_Z below #[Value.ref b] s) (F0 m 914 ls []) := by
  have hx := X.1.1
  have hb := X.1.2.1
  have hown := X.1.2.2.2.1
  have hts := X.1.2.2.2.2
  intro S M n z x1 x2 x3 H locs ls hn hp hl hF
  have hm0 := mn_L_law_914 _ hmk18 hF
  unfold fb_L_law_914 at hF
  refine lv_aload_n hx hb dL_law_914 rfl (lv_at hl 1 rfl) ?_
  refine lv_aload_n hx hb dL_law_915 rfl (lv_at hl 0 rfl) ?_
  refine lv_iload_n hx hb dL_law_916 rfl (lv_at hl 3 rfl) ?_
  refine lv_iconst (v := 1) hx hb dL_law_917 (by decide) ?_
  refine lv_iadd hx hb dL_law_918 ?_
  obtain ⟨g204, hF⟩ := gd_s hF
  refine va_sld hx hb hXs (by rw [hn0]; exact hbl) (fun h => Nat.not_le.mpr hbl h) hp.2 g204 dL_law_919 ?_
  refine lv_aload_n hx hb dL_law_920 rfl (lv_at hl 0 rfl) ?_
  refine lv_iload_n hx hb dL_law_921 rfl (lv_at hl 3 rfl) ?_
  refine lv_iconst (v := 2) hx hb dL_law_922 (by decide) ?_
  refine lv_iadd hx hb dL_law_923 ?_
  obtain ⟨g205, hF⟩ := gd_s hF
  refine va_sld hx hb hXs (by rw [hn0]; exact hbl) (fun h => Nat.not_le.mpr hbl h) hp.2 g205 dL_law_924 ?_
  refine lv_aload_n hx hb dL_law_925 rfl (lv_at hl 0 rfl) ?_
  refine lv_iload_n hx hb dL_law_926 rfl (lv_at hl 3 rfl) ?_
  refine lv_iconst (v := 3) hx hb dL_law_927 (by decide) ?_
  refine lv_iadd hx hb dL_law_928 ?_
  obtain ⟨g206, hF⟩ := gd_s hF
  refine va_sld hx hb hXs (by rw [hn0]; exact hbl) (fun h => Nat.not_le.mpr hbl h) hp.2 g206 dL_law_929 ?_
  obtain ⟨g207, hF⟩ := gd_s hF
  obtain ⟨v209, e208, hF⟩ := ob_s hF
  refine m_callV (As := [.int (xs (x3 + (1 : Int32)).toNatClampNeg), .int (xs (x3 + (2 : Int32)).toNatClampNeg), .int (xs (x3 + (3 : Int32)).toNatClampNeg)]) (rest := []) X hp (w_X0_folded e208) q1323 q1324 q1325 q132 q1326 3 rfl ds_X0_folded ⟨Nat.le_of_ble_eq_true rfl, Nat.le_of_ble_eq_true rfl⟩ 1 (T := TX0) (N := 30) rfl (by decide) g207 hl.1 rfl (Nat.le_of_ble_eq_true rfl) dL_law_930 ⟨by show _ + 0 ≤ 601024; omega, by show _ + 0 ≤ 7293034; omega⟩ (fun H locs hp => ?_)
  refine lv_aload_n hx hb dL_law_933 rfl (lv_at hl 2 rfl) ?_
  refine lv_aload_n hx hb dL_law_934 rfl (lv_at hl 0 rfl) ?_
  refine lv_iload_n hx hb dL_law_935 rfl (lv_at hl 3 rfl) ?_
  refine lv_iconst (v := 1) hx hb dL_law_936 (by decide) ?_
  refine lv_iadd hx hb dL_law_937 ?_
  obtain ⟨g210, hF⟩ := gd_s hF
  refine va_sld hx hb hXs (by rw [hn0]; exact hbl) (fun h => Nat.not_le.mpr hbl h) hp.2 g210 dL_law_938 ?_
  refine lv_aload_n hx hb dL_law_939 rfl (lv_at hl 0 rfl) ?_
  refine lv_iload_n hx hb dL_law_940 rfl (lv_at hl 3 rfl) ?_
  refine lv_iconst (v := 2) hx hb dL_law_941 (by decide) ?_
  refine lv_iadd hx hb dL_law_942 ?_
  obtain ⟨g211, hF⟩ := gd_s hF
  refine va_sld hx hb hXs (by rw [hn0]; exact hbl) (fun h => Nat.not_le.mpr hbl h) hp.2 g211 dL_law_943 ?_
  refine lv_aload_n hx hb dL_law_944 rfl (lv_at hl 0 rfl) ?_
  refine lv_iload_n hx hb dL_law_945 rfl (lv_at hl 3 rfl) ?_
  refine lv_iconst (v := 3) hx hb dL_law_946 (by decide) ?_
  refine lv_iadd hx hb dL_law_947 ?_
  obtain ⟨g212, hF⟩ := gd_s hF
  refine va_sld hx hb hXs (by rw [hn0]; exact hbl) (fun h => Nat.not_le.mpr hbl h) hp.2 g212 dL_law_948 ?_
  obtain ⟨g213, hF⟩ := gd_s hF
  obtain ⟨v215, e214, hF⟩ := ob_s hF
  refine m_callV (As := [.int (xs (x3 + (1 : Int32)).toNatClampNeg), .int (xs (x3 + (2 : Int32)).toNatClampNeg), .int (xs (x3 + (3 : Int32)).toNatClampNeg)]) (rest := [.int v209]) X hp (w_X5_folded e214) q1997 q1998 q1999 q144 q2000 3 rfl ds_X5_folded ⟨Nat.le_of_ble_eq_true rfl, Nat.le_of_ble_eq_true rfl⟩ 6 (T := TX5) (N := 40) rfl (by decide) g213 hl.1 rfl (Nat.le_of_ble_eq_true rfl) dL_law_949 ⟨by show _ + 0 ≤ 601024; omega, by show _ + 0 ≤ 7293034; omega⟩ (fun H locs hp => ?_)
  refine lv_icmp_eq (tgt := 1309) hx hb dL_law_952 (by decide) (fun c216 => ?_) (fun c216 => ?_)
  · have hF := if_p c216 hF
    exact b_L_law_1309 hV hVs hs hVx hn0 hXs hbl hbd X k18 hmk18 hk18 _ _ _ _ _ _ _ _ _ _ (by omega) hp (lv_sub hl [0, 1, 2, 3] rfl) hF
  · have hF := if_n c216 hF
    refine lv_iconst (v := 0) hx hb dL_law_955 (by decide) ?_
    exact absurd (lw_01 hF) (by decide)
def fb_L_law_957 (V : Nat → Nat) (xs : Nat → Int32) (L : Nat) (k18 : mSh → mMm → Nat → Nat → Nat → Nat → Int32 → Option (Int32 × mSh × mMm × Nat × Nat)) (S : mSh) (M : mMm) (n z : Nat) (x1 : Nat) (x2 : Nat) (x3 : Int32) : Option (Int32 × mSh × mMm × Nat × Nat) := gd (¬ ((x3 + (1 : Int32)) < 0 ∨ L ≤ (x3 + (1 : Int32)).toNatClampNeg)) (gd (¬ ((x3 + (2 : Int32)) < 0 ∨ L ≤ (x3 + (2 : Int32)).toNatClampNeg)) (gd (¬ ((x3 + (3 : Int32)) < 0 ∨ L ≤ (x3 + (3 : Int32)).toNatClampNeg)) (gd ((S x1).1 = 1) (ob (f_X0_duel S M x1 (xs (x3 + (1 : Int32)).toNatClampNeg) (xs (x3 + (2 : Int32)).toNatClampNeg) (xs (x3 + (3 : Int32)).toNatClampNeg)) fun ⟨v194, M195⟩ => gd (¬ ((x3 + (1 : Int32)) < 0 ∨ L ≤ (x3 + (1 : Int32)).toNatClampNeg)) (gd (¬ ((x3 + (2 : Int32)) < 0 ∨ L ≤ (x3 + (2 : Int32)).toNatClampNeg)) (gd (¬ ((x3 + (3 : Int32)) < 0 ∨ L ≤ (x3 + (3 : Int32)).toNatClampNeg)) (gd ((S x2).1 = 6) (ob (f_X5_duel S M195 x2 (xs (x3 + (1 : Int32)).toNatClampNeg) (xs (x3 + (2 : Int32)).toNatClampNeg) (xs (x3 + (3 : Int32)).toNatClampNeg)) fun ⟨v201, M202⟩ => (if v194 = v201 then (fb_L_law_1309 V xs L k18 S M202 n z x1 x2 x3) else some ((0 : Int32), S, M202, n, z))))))))))
theorem mn_L_law_957 {S' : mSh} {M' : mMm} {n' z' : Nat} (k18 : mSh → mMm → Nat → Nat → Nat → Nat → Int32 → Option (Int32 × mSh × mMm × Nat × Nat)) (hmk18 : ∀ {S : mSh} {M : mMm} {n z : Nat} {x1 : Nat} {x2 : Nat} {x3 : Int32}, k18 S M n z x1 x2 x3 = some (1, S', M', n', z') → n ≤ n' ∧ z ≤ z') : ∀ {S : mSh} {M : mMm} {n z : Nat} {x1 : Nat} {x2 : Nat} {x3 : Int32}, fb_L_law_957 V xs L k18 S M n z x1 x2 x3 = some (1, S', M', n', z') → n ≤ n' ∧ z ≤ z' := by
  intro S M n z x1 x2 x3 hF
  unfold fb_L_law_957 at hF
  obtain ⟨g189, hF⟩ := gd_s hF
  obtain ⟨g190, hF⟩ := gd_s hF
  obtain ⟨g191, hF⟩ := gd_s hF
  obtain ⟨g192, hF⟩ := gd_s hF
  obtain ⟨⟨v194, M195⟩, e193, hF⟩ := ob_s hF
  obtain ⟨g196, hF⟩ := gd_s hF
  obtain ⟨g197, hF⟩ := gd_s hF
  obtain ⟨g198, hF⟩ := gd_s hF
  obtain ⟨g199, hF⟩ := gd_s hF
  obtain ⟨⟨v201, M202⟩, e200, hF⟩ := ob_s hF
  rcases Decidable.em (v194 = v201) with c203 | c203
  · have hF := if_p c203 hF
    have h9 := (mn_L_law_1309 (V := V) (xs := xs) (L := L) k18 hmk18) hF
    exact ⟨by omega, by omega⟩
  · have hF := if_n c203 hF
    exact absurd (lw_01 hF) (by decide)
theorem b_L_law_957 {S' : mSh} {M' : mMm} {n' z' : Nat} (hV : mV V n0 P) (hVs : mVs V n0 P) (hs : l.stackTraces = false) (hVx : mVx n0 P) (hn0 : s.heap.size = n0) (hXs : va_X b L xs s s.heap) (hbl : b < n0) (hbd : n' - n0 ≤ 601024 ∧ z' ≤ 7293034) (X : mCx D n0 P p m c cL_law 4 s #[Value.ref b] "WindingSquareLaw" meth (some .boolean)) (k18 : mSh → mMm → Nat → Nat → Nat → Nat → Int32 → Option (Int32 × mSh × mMm × Nat × Nat)) (hmk18 : ∀ {S : mSh} {M : mMm} {n z : Nat} {x1 : Nat} {x2 : Nat} {x3 : Int32}, k18 S M n z x1 x2 x3 = some (1, S', M', n', z') → n ≤ n' ∧ z ≤ z') (hk18 : ∀ (S : mSh) (M : mMm) (n z : Nat) (x1 : Nat) (x2 : Nat) (x3 : Int32) (H : Heap) (locs : List Loc) (ls : Array Slot), n0 ≤ n → mHp D n0 S M n s H locs → lv_has ls 4 [(0, .ref b), (1, .ref x1), (2, .ref x2), (3, .int x3)] → k18 S M n z x1 x2 x3 = some (1, S', M', n', z') → W p l e room_1 s m #[Value.ref b] below meth c H locs (n - n0) (z) (lw_Z below #[Value.ref b] s) (F0 m 18 ls [])) : ∀ (S : mSh) (M : mMm) (n z : Nat) (x1 : Nat) (x2 : Nat) (x3 : Int32) (H : Heap) (locs : List Loc) (ls : Array Slot), n0 ≤ n → mHp D n0 S M n s H locs → lv_has ls 4 [(0, .ref b), (1, .ref x1), (2, .ref x2), (3, .int x3)] → fb_L_law_957 V xs L k18 S M n z x1 x2 x3 = some (1, S', M', n', z') → W p l e room_1 s m #[Value.ref b] below meth c H locs (n - n0) (z) (lw_Z below #[Value.ref b] s) (F0 m 957 ls []) := by
  have hx := X.1.1
  have hb := X.1.2.1
  have hown := X.1.2.2.2.1
  have hts := X.1.2.2.2.2
  intro S M n z x1 x2 x3 H locs ls hn hp hl hF
  have hm0 := mn_L_law_957 _ hmk18 hF
  unfold fb_L_law_957 at hF
  refine lv_aload_n hx hb dL_law_957 rfl (lv_at hl 1 rfl) ?_
  refine lv_aload_n hx hb dL_law_958 rfl (lv_at hl 0 rfl) ?_
  refine lv_iload_n hx hb dL_law_959 rfl (lv_at hl 3 rfl) ?_
  refine lv_iconst (v := 1) hx hb dL_law_960 (by decide) ?_
  refine lv_iadd hx hb dL_law_961 ?_
  obtain ⟨g189, hF⟩ := gd_s hF
  refine va_sld hx hb hXs (by rw [hn0]; exact hbl) (fun h => Nat.not_le.mpr hbl h) hp.2 g189 dL_law_962 ?_
  refine lv_aload_n hx hb dL_law_963 rfl (lv_at hl 0 rfl) ?_
  refine lv_iload_n hx hb dL_law_964 rfl (lv_at hl 3 rfl) ?_
  refine lv_iconst (v := 2) hx hb dL_law_965 (by decide) ?_
  refine lv_iadd hx hb dL_law_966 ?_
  obtain ⟨g190, hF⟩ := gd_s hF
  refine va_sld hx hb hXs (by rw [hn0]; exact hbl) (fun h => Nat.not_le.mpr hbl h) hp.2 g190 dL_law_967 ?_
  refine lv_aload_n hx hb dL_law_968 rfl (lv_at hl 0 rfl) ?_
  refine lv_iload_n hx hb dL_law_969 rfl (lv_at hl 3 rfl) ?_
  refine lv_iconst (v := 3) hx hb dL_law_970 (by decide) ?_
  refine lv_iadd hx hb dL_law_971 ?_
  obtain ⟨g191, hF⟩ := gd_s hF
  refine va_sld hx hb hXs (by rw [hn0]; exact hbl) (fun h => Nat.not_le.mpr hbl h) hp.2 g191 dL_law_972 ?_
  obtain ⟨g192, hF⟩ := gd_s hF
  obtain ⟨⟨v194, M195⟩, e193, hF⟩ := ob_s hF
  refine m_callV (As := [.int (xs (x3 + (1 : Int32)).toNatClampNeg), .int (xs (x3 + (2 : Int32)).toNatClampNeg), .int (xs (x3 + (3 : Int32)).toNatClampNeg)]) (rest := []) X hp (w_X0_duel e193) q1333 q1334 q1335 q132 q1336 3 rfl ds_X0_duel ⟨Nat.le_of_ble_eq_true rfl, Nat.le_of_ble_eq_true rfl⟩ 1 (T := TX0) (N := 30) rfl (by decide) g192 hl.1 rfl (Nat.le_of_ble_eq_true rfl) dL_law_973 ⟨by show _ + 0 ≤ 601024; omega, by show _ + 0 ≤ 7293034; omega⟩ (fun H locs hp => ?_)
  refine lv_aload_n hx hb dL_law_976 rfl (lv_at hl 2 rfl) ?_
  refine lv_aload_n hx hb dL_law_977 rfl (lv_at hl 0 rfl) ?_
  refine lv_iload_n hx hb dL_law_978 rfl (lv_at hl 3 rfl) ?_
  refine lv_iconst (v := 1) hx hb dL_law_979 (by decide) ?_
  refine lv_iadd hx hb dL_law_980 ?_
  obtain ⟨g196, hF⟩ := gd_s hF
  refine va_sld hx hb hXs (by rw [hn0]; exact hbl) (fun h => Nat.not_le.mpr hbl h) hp.2 g196 dL_law_981 ?_
  refine lv_aload_n hx hb dL_law_982 rfl (lv_at hl 0 rfl) ?_
  refine lv_iload_n hx hb dL_law_983 rfl (lv_at hl 3 rfl) ?_
  refine lv_iconst (v := 2) hx hb dL_law_984 (by decide) ?_
  refine lv_iadd hx hb dL_law_985 ?_
  obtain ⟨g197, hF⟩ := gd_s hF
  refine va_sld hx hb hXs (by rw [hn0]; exact hbl) (fun h => Nat.not_le.mpr hbl h) hp.2 g197 dL_law_986 ?_
  refine lv_aload_n hx hb dL_law_987 rfl (lv_at hl 0 rfl) ?_
  refine lv_iload_n hx hb dL_law_988 rfl (lv_at hl 3 rfl) ?_
  refine lv_iconst (v := 3) hx hb dL_law_989 (by decide) ?_
  refine lv_iadd hx hb dL_law_990 ?_
  obtain ⟨g198, hF⟩ := gd_s hF
  refine va_sld hx hb hXs (by rw [hn0]; exact hbl) (fun h => Nat.not_le.mpr hbl h) hp.2 g198 dL_law_991 ?_
  obtain ⟨g199, hF⟩ := gd_s hF
  obtain ⟨⟨v201, M202⟩, e200, hF⟩ := ob_s hF
  refine m_callV (As := [.int (xs (x3 + (1 : Int32)).toNatClampNeg), .int (xs (x3 + (2 : Int32)).toNatClampNeg), .int (xs (x3 + (3 : Int32)).toNatClampNeg)]) (rest := [.int v194]) X hp (w_X5_duel e200) q2004 q2005 q2006 q144 q2007 3 rfl ds_X5_duel ⟨Nat.le_of_ble_eq_true rfl, Nat.le_of_ble_eq_true rfl⟩ 6 (T := TX5) (N := 40) rfl (by decide) g199 hl.1 rfl (Nat.le_of_ble_eq_true rfl) dL_law_992 ⟨by show _ + 0 ≤ 601024; omega, by show _ + 0 ≤ 7293034; omega⟩ (fun H locs hp => ?_)
  refine lv_icmp_eq (tgt := 1309) hx hb dL_law_995 (by decide) (fun c203 => ?_) (fun c203 => ?_)
  · have hF := if_p c203 hF
    exact b_L_law_1309 hV hVs hs hVx hn0 hXs hbl hbd X k18 hmk18 hk18 _ _ _ _ _ _ _ _ _ _ (by omega) hp (lv_sub hl [0, 1, 2, 3] rfl) hF
  · have hF := if_n c203 hF
    refine lv_iconst (v := 0) hx hb dL_law_998 (by decide) ?_
    exact absurd (lw_01 hF) (by decide)
def fb_L_law_1000 (V : Nat → Nat) (xs : Nat → Int32) (L : Nat) (k18 : mSh → mMm → Nat → Nat → Nat → Nat → Int32 → Option (Int32 × mSh × mMm × Nat × Nat)) (S : mSh) (M : mMm) (n z : Nat) (x1 : Nat) (x2 : Nat) (x3 : Int32) : Option (Int32 × mSh × mMm × Nat × Nat) := gd (¬ ((x3 + (1 : Int32)) < 0 ∨ L ≤ (x3 + (1 : Int32)).toNatClampNeg)) (gd (¬ ((x3 + (2 : Int32)) < 0 ∨ L ≤ (x3 + (2 : Int32)).toNatClampNeg)) (gd ((S x1).1 = 1) (ob (f_X0_ant S M x1 (xs (x3 + (1 : Int32)).toNatClampNeg) (xs (x3 + (2 : Int32)).toNatClampNeg)) fun ⟨v180, M181⟩ => gd (¬ ((x3 + (1 : Int32)) < 0 ∨ L ≤ (x3 + (1 : Int32)).toNatClampNeg)) (gd (¬ ((x3 + (2 : Int32)) < 0 ∨ L ≤ (x3 + (2 : Int32)).toNatClampNeg)) (gd ((S x2).1 = 6) (ob (f_X5_ant S M181 x2 (xs (x3 + (1 : Int32)).toNatClampNeg) (xs (x3 + (2 : Int32)).toNatClampNeg)) fun ⟨v186, M187⟩ => (if v180 = v186 then (fb_L_law_1309 V xs L k18 S M187 n z x1 x2 x3) else some ((0 : Int32), S, M187, n, z))))))))
theorem mn_L_law_1000 {S' : mSh} {M' : mMm} {n' z' : Nat} (k18 : mSh → mMm → Nat → Nat → Nat → Nat → Int32 → Option (Int32 × mSh × mMm × Nat × Nat)) (hmk18 : ∀ {S : mSh} {M : mMm} {n z : Nat} {x1 : Nat} {x2 : Nat} {x3 : Int32}, k18 S M n z x1 x2 x3 = some (1, S', M', n', z') → n ≤ n' ∧ z ≤ z') : ∀ {S : mSh} {M : mMm} {n z : Nat} {x1 : Nat} {x2 : Nat} {x3 : Int32}, fb_L_law_1000 V xs L k18 S M n z x1 x2 x3 = some (1, S', M', n', z') → n ≤ n' ∧ z ≤ z' := by
  intro S M n z x1 x2 x3 hF
  unfold fb_L_law_1000 at hF
  obtain ⟨g176, hF⟩ := gd_s hF
  obtain ⟨g177, hF⟩ := gd_s hF
  obtain ⟨g178, hF⟩ := gd_s hF
  obtain ⟨⟨v180, M181⟩, e179, hF⟩ := ob_s hF
  obtain ⟨g182, hF⟩ := gd_s hF
  obtain ⟨g183, hF⟩ := gd_s hF
  obtain ⟨g184, hF⟩ := gd_s hF
  obtain ⟨⟨v186, M187⟩, e185, hF⟩ := ob_s hF
  rcases Decidable.em (v180 = v186) with c188 | c188
  · have hF := if_p c188 hF
    have h9 := (mn_L_law_1309 (V := V) (xs := xs) (L := L) k18 hmk18) hF
    exact ⟨by omega, by omega⟩
  · have hF := if_n c188 hF
    exact absurd (lw_01 hF) (by decide)
theorem b_L_law_1000 {S' : mSh} {M' : mMm} {n' z' : Nat} (hV : mV V n0 P) (hVs : mVs V n0 P) (hs : l.stackTraces = false) (hVx : mVx n0 P) (hn0 : s.heap.size = n0) (hXs : va_X b L xs s s.heap) (hbl : b < n0) (hbd : n' - n0 ≤ 601024 ∧ z' ≤ 7293034) (X : mCx D n0 P p m c cL_law 4 s #[Value.ref b] "WindingSquareLaw" meth (some .boolean)) (k18 : mSh → mMm → Nat → Nat → Nat → Nat → Int32 → Option (Int32 × mSh × mMm × Nat × Nat)) (hmk18 : ∀ {S : mSh} {M : mMm} {n z : Nat} {x1 : Nat} {x2 : Nat} {x3 : Int32}, k18 S M n z x1 x2 x3 = some (1, S', M', n', z') → n ≤ n' ∧ z ≤ z') (hk18 : ∀ (S : mSh) (M : mMm) (n z : Nat) (x1 : Nat) (x2 : Nat) (x3 : Int32) (H : Heap) (locs : List Loc) (ls : Array Slot), n0 ≤ n → mHp D n0 S M n s H locs → lv_has ls 4 [(0, .ref b), (1, .ref x1), (2, .ref x2), (3, .int x3)] → k18 S M n z x1 x2 x3 = some (1, S', M', n', z') → W p l e room_1 s m #[Value.ref b] below meth c H locs (n - n0) (z) (lw_Z below #[Value.ref b] s) (F0 m 18 ls [])) : ∀ (S : mSh) (M : mMm) (n z : Nat) (x1 : Nat) (x2 : Nat) (x3 : Int32) (H : Heap) (locs : List Loc) (ls : Array Slot), n0 ≤ n → mHp D n0 S M n s H locs → lv_has ls 4 [(0, .ref b), (1, .ref x1), (2, .ref x2), (3, .int x3)] → fb_L_law_1000 V xs L k18 S M n z x1 x2 x3 = some (1, S', M', n', z') → W p l e room_1 s m #[Value.ref b] below meth c H locs (n - n0) (z) (lw_Z below #[Value.ref b] s) (F0 m 1000 ls []) := by
  have hx := X.1.1
  have hb := X.1.2.1
  have hown := X.1.2.2.2.1
  have hts := X.1.2.2.2.2
  intro S M n z x1 x2 x3 H locs ls hn hp hl hF
  have hm0 := mn_L_law_1000 _ hmk18 hF
  unfold fb_L_law_1000 at hF
  refine lv_aload_n hx hb dL_law_1000 rfl (lv_at hl 1 rfl) ?_
  refine lv_aload_n hx hb dL_law_1001 rfl (lv_at hl 0 rfl) ?_
  refine lv_iload_n hx hb dL_law_1002 rfl (lv_at hl 3 rfl) ?_
  refine lv_iconst (v := 1) hx hb dL_law_1003 (by decide) ?_
  refine lv_iadd hx hb dL_law_1004 ?_
  obtain ⟨g176, hF⟩ := gd_s hF
  refine va_sld hx hb hXs (by rw [hn0]; exact hbl) (fun h => Nat.not_le.mpr hbl h) hp.2 g176 dL_law_1005 ?_
  refine lv_aload_n hx hb dL_law_1006 rfl (lv_at hl 0 rfl) ?_
  refine lv_iload_n hx hb dL_law_1007 rfl (lv_at hl 3 rfl) ?_
  refine lv_iconst (v := 2) hx hb dL_law_1008 (by decide) ?_
  refine lv_iadd hx hb dL_law_1009 ?_
  obtain ⟨g177, hF⟩ := gd_s hF
  refine va_sld hx hb hXs (by rw [hn0]; exact hbl) (fun h => Nat.not_le.mpr hbl h) hp.2 g177 dL_law_1010 ?_
  obtain ⟨g178, hF⟩ := gd_s hF
  obtain ⟨⟨v180, M181⟩, e179, hF⟩ := ob_s hF
  refine m_callV (As := [.int (xs (x3 + (1 : Int32)).toNatClampNeg), .int (xs (x3 + (2 : Int32)).toNatClampNeg)]) (rest := []) X hp (w_X0_ant e179) q1341 q1342 q1343 q132 q1344 2 rfl ds_X0_ant ⟨Nat.le_of_ble_eq_true rfl, Nat.le_of_ble_eq_true rfl⟩ 1 (T := TX0) (N := 30) rfl (by decide) g178 hl.1 rfl (Nat.le_of_ble_eq_true rfl) dL_law_1011 ⟨by show _ + 0 ≤ 601024; omega, by show _ + 0 ≤ 7293034; omega⟩ (fun H locs hp => ?_)
  refine lv_aload_n hx hb dL_law_1014 rfl (lv_at hl 2 rfl) ?_
  refine lv_aload_n hx hb dL_law_1015 rfl (lv_at hl 0 rfl) ?_
  refine lv_iload_n hx hb dL_law_1016 rfl (lv_at hl 3 rfl) ?_
  refine lv_iconst (v := 1) hx hb dL_law_1017 (by decide) ?_
  refine lv_iadd hx hb dL_law_1018 ?_
  obtain ⟨g182, hF⟩ := gd_s hF
  refine va_sld hx hb hXs (by rw [hn0]; exact hbl) (fun h => Nat.not_le.mpr hbl h) hp.2 g182 dL_law_1019 ?_
  refine lv_aload_n hx hb dL_law_1020 rfl (lv_at hl 0 rfl) ?_
  refine lv_iload_n hx hb dL_law_1021 rfl (lv_at hl 3 rfl) ?_
  refine lv_iconst (v := 2) hx hb dL_law_1022 (by decide) ?_
  refine lv_iadd hx hb dL_law_1023 ?_
  obtain ⟨g183, hF⟩ := gd_s hF
  refine va_sld hx hb hXs (by rw [hn0]; exact hbl) (fun h => Nat.not_le.mpr hbl h) hp.2 g183 dL_law_1024 ?_
  obtain ⟨g184, hF⟩ := gd_s hF
  obtain ⟨⟨v186, M187⟩, e185, hF⟩ := ob_s hF
  refine m_callV (As := [.int (xs (x3 + (1 : Int32)).toNatClampNeg), .int (xs (x3 + (2 : Int32)).toNatClampNeg)]) (rest := [.int v180]) X hp (w_X5_ant e185) q2012 q2013 q2014 q144 q2015 2 rfl ds_X5_ant ⟨Nat.le_of_ble_eq_true rfl, Nat.le_of_ble_eq_true rfl⟩ 6 (T := TX5) (N := 40) rfl (by decide) g184 hl.1 rfl (Nat.le_of_ble_eq_true rfl) dL_law_1025 ⟨by show _ + 0 ≤ 601024; omega, by show _ + 0 ≤ 7293034; omega⟩ (fun H locs hp => ?_)
  refine lv_icmp_eq (tgt := 1309) hx hb dL_law_1028 (by decide) (fun c188 => ?_) (fun c188 => ?_)
  · have hF := if_p c188 hF
    exact b_L_law_1309 hV hVs hs hVx hn0 hXs hbl hbd X k18 hmk18 hk18 _ _ _ _ _ _ _ _ _ _ (by omega) hp (lv_sub hl [0, 1, 2, 3] rfl) hF
  · have hF := if_n c188 hF
    refine lv_iconst (v := 0) hx hb dL_law_1031 (by decide) ?_
    exact absurd (lw_01 hF) (by decide)
def fb_L_law_1033 (V : Nat → Nat) (xs : Nat → Int32) (L : Nat) (k18 : mSh → mMm → Nat → Nat → Nat → Nat → Int32 → Option (Int32 × mSh × mMm × Nat × Nat)) (S : mSh) (M : mMm) (n z : Nat) (x1 : Nat) (x2 : Nat) (x3 : Int32) : Option (Int32 × mSh × mMm × Nat × Nat) := gd (¬ ((x3 + (1 : Int32)) < 0 ∨ L ≤ (x3 + (1 : Int32)).toNatClampNeg)) (gd (¬ ((x3 + (2 : Int32)) < 0 ∨ L ≤ (x3 + (2 : Int32)).toNatClampNeg)) (gd ((S x1).1 = 1) (ob (f_X0_hooks S M x1 (xs (x3 + (1 : Int32)).toNatClampNeg) (xs (x3 + (2 : Int32)).toNatClampNeg)) fun ⟨v167, M168⟩ => gd (¬ ((x3 + (1 : Int32)) < 0 ∨ L ≤ (x3 + (1 : Int32)).toNatClampNeg)) (gd (¬ ((x3 + (2 : Int32)) < 0 ∨ L ≤ (x3 + (2 : Int32)).toNatClampNeg)) (gd ((S x2).1 = 6) (ob (f_X5_hooks S M168 x2 (xs (x3 + (1 : Int32)).toNatClampNeg) (xs (x3 + (2 : Int32)).toNatClampNeg)) fun ⟨v173, M174⟩ => (if v167 = v173 then (fb_L_law_1309 V xs L k18 S M174 n z x1 x2 x3) else some ((0 : Int32), S, M174, n, z))))))))
theorem mn_L_law_1033 {S' : mSh} {M' : mMm} {n' z' : Nat} (k18 : mSh → mMm → Nat → Nat → Nat → Nat → Int32 → Option (Int32 × mSh × mMm × Nat × Nat)) (hmk18 : ∀ {S : mSh} {M : mMm} {n z : Nat} {x1 : Nat} {x2 : Nat} {x3 : Int32}, k18 S M n z x1 x2 x3 = some (1, S', M', n', z') → n ≤ n' ∧ z ≤ z') : ∀ {S : mSh} {M : mMm} {n z : Nat} {x1 : Nat} {x2 : Nat} {x3 : Int32}, fb_L_law_1033 V xs L k18 S M n z x1 x2 x3 = some (1, S', M', n', z') → n ≤ n' ∧ z ≤ z' := by
  intro S M n z x1 x2 x3 hF
  unfold fb_L_law_1033 at hF
  obtain ⟨g163, hF⟩ := gd_s hF
  obtain ⟨g164, hF⟩ := gd_s hF
  obtain ⟨g165, hF⟩ := gd_s hF
  obtain ⟨⟨v167, M168⟩, e166, hF⟩ := ob_s hF
  obtain ⟨g169, hF⟩ := gd_s hF
  obtain ⟨g170, hF⟩ := gd_s hF
  obtain ⟨g171, hF⟩ := gd_s hF
  obtain ⟨⟨v173, M174⟩, e172, hF⟩ := ob_s hF
  rcases Decidable.em (v167 = v173) with c175 | c175
  · have hF := if_p c175 hF
    have h9 := (mn_L_law_1309 (V := V) (xs := xs) (L := L) k18 hmk18) hF
    exact ⟨by omega, by omega⟩
  · have hF := if_n c175 hF
    exact absurd (lw_01 hF) (by decide)
theorem b_L_law_1033 {S' : mSh} {M' : mMm} {n' z' : Nat} (hV : mV V n0 P) (hVs : mVs V n0 P) (hs : l.stackTraces = false) (hVx : mVx n0 P) (hn0 : s.heap.size = n0) (hXs : va_X b L xs s s.heap) (hbl : b < n0) (hbd : n' - n0 ≤ 601024 ∧ z' ≤ 7293034) (X : mCx D n0 P p m c cL_law 4 s #[Value.ref b] "WindingSquareLaw" meth (some .boolean)) (k18 : mSh → mMm → Nat → Nat → Nat → Nat → Int32 → Option (Int32 × mSh × mMm × Nat × Nat)) (hmk18 : ∀ {S : mSh} {M : mMm} {n z : Nat} {x1 : Nat} {x2 : Nat} {x3 : Int32}, k18 S M n z x1 x2 x3 = some (1, S', M', n', z') → n ≤ n' ∧ z ≤ z') (hk18 : ∀ (S : mSh) (M : mMm) (n z : Nat) (x1 : Nat) (x2 : Nat) (x3 : Int32) (H : Heap) (locs : List Loc) (ls : Array Slot), n0 ≤ n → mHp D n0 S M n s H locs → lv_has ls 4 [(0, .ref b), (1, .ref x1), (2, .ref x2), (3, .int x3)] → k18 S M n z x1 x2 x3 = some (1, S', M', n', z') → W p l e room_1 s m #[Value.ref b] below meth c H locs (n - n0) (z) (lw_Z below #[Value.ref b] s) (F0 m 18 ls [])) : ∀ (S : mSh) (M : mMm) (n z : Nat) (x1 : Nat) (x2 : Nat) (x3 : Int32) (H : Heap) (locs : List Loc) (ls : Array Slot), n0 ≤ n → mHp D n0 S M n s H locs → lv_has ls 4 [(0, .ref b), (1, .ref x1), (2, .ref x2), (3, .int x3)] → fb_L_law_1033 V xs L k18 S M n z x1 x2 x3 = some (1, S', M', n', z') → W p l e room_1 s m #[Value.ref b] below meth c H locs (n - n0) (z) (lw_Z below #[Value.ref b] s) (F0 m 1033 ls []) := by
  have hx := X.1.1
  have hb := X.1.2.1
  have hown := X.1.2.2.2.1
  have hts := X.1.2.2.2.2
  intro S M n z x1 x2 x3 H locs ls hn hp hl hF
  have hm0 := mn_L_law_1033 _ hmk18 hF
  unfold fb_L_law_1033 at hF
  refine lv_aload_n hx hb dL_law_1033 rfl (lv_at hl 1 rfl) ?_
  refine lv_aload_n hx hb dL_law_1034 rfl (lv_at hl 0 rfl) ?_
  refine lv_iload_n hx hb dL_law_1035 rfl (lv_at hl 3 rfl) ?_
  refine lv_iconst (v := 1) hx hb dL_law_1036 (by decide) ?_
  refine lv_iadd hx hb dL_law_1037 ?_
  obtain ⟨g163, hF⟩ := gd_s hF
  refine va_sld hx hb hXs (by rw [hn0]; exact hbl) (fun h => Nat.not_le.mpr hbl h) hp.2 g163 dL_law_1038 ?_
  refine lv_aload_n hx hb dL_law_1039 rfl (lv_at hl 0 rfl) ?_
  refine lv_iload_n hx hb dL_law_1040 rfl (lv_at hl 3 rfl) ?_
  refine lv_iconst (v := 2) hx hb dL_law_1041 (by decide) ?_
  refine lv_iadd hx hb dL_law_1042 ?_
  obtain ⟨g164, hF⟩ := gd_s hF
  refine va_sld hx hb hXs (by rw [hn0]; exact hbl) (fun h => Nat.not_le.mpr hbl h) hp.2 g164 dL_law_1043 ?_
  obtain ⟨g165, hF⟩ := gd_s hF
  obtain ⟨⟨v167, M168⟩, e166, hF⟩ := ob_s hF
  refine m_callV (As := [.int (xs (x3 + (1 : Int32)).toNatClampNeg), .int (xs (x3 + (2 : Int32)).toNatClampNeg)]) (rest := []) X hp (w_X0_hooks e166) q1345 q1346 q1347 q132 q1348 2 rfl ds_X0_hooks ⟨Nat.le_of_ble_eq_true rfl, Nat.le_of_ble_eq_true rfl⟩ 1 (T := TX0) (N := 30) rfl (by decide) g165 hl.1 rfl (Nat.le_of_ble_eq_true rfl) dL_law_1044 ⟨by show _ + 0 ≤ 601024; omega, by show _ + 0 ≤ 7293034; omega⟩ (fun H locs hp => ?_)
  refine lv_aload_n hx hb dL_law_1047 rfl (lv_at hl 2 rfl) ?_
  refine lv_aload_n hx hb dL_law_1048 rfl (lv_at hl 0 rfl) ?_
  refine lv_iload_n hx hb dL_law_1049 rfl (lv_at hl 3 rfl) ?_
  refine lv_iconst (v := 1) hx hb dL_law_1050 (by decide) ?_
  refine lv_iadd hx hb dL_law_1051 ?_
  obtain ⟨g169, hF⟩ := gd_s hF
  refine va_sld hx hb hXs (by rw [hn0]; exact hbl) (fun h => Nat.not_le.mpr hbl h) hp.2 g169 dL_law_1052 ?_
  refine lv_aload_n hx hb dL_law_1053 rfl (lv_at hl 0 rfl) ?_
  refine lv_iload_n hx hb dL_law_1054 rfl (lv_at hl 3 rfl) ?_
  refine lv_iconst (v := 2) hx hb dL_law_1055 (by decide) ?_
  refine lv_iadd hx hb dL_law_1056 ?_
  obtain ⟨g170, hF⟩ := gd_s hF
  refine va_sld hx hb hXs (by rw [hn0]; exact hbl) (fun h => Nat.not_le.mpr hbl h) hp.2 g170 dL_law_1057 ?_
  obtain ⟨g171, hF⟩ := gd_s hF
  obtain ⟨⟨v173, M174⟩, e172, hF⟩ := ob_s hF
  refine m_callV (As := [.int (xs (x3 + (1 : Int32)).toNatClampNeg), .int (xs (x3 + (2 : Int32)).toNatClampNeg)]) (rest := [.int v167]) X hp (w_X5_hooks e172) q2016 q2017 q2018 q144 q2019 2 rfl ds_X5_hooks ⟨Nat.le_of_ble_eq_true rfl, Nat.le_of_ble_eq_true rfl⟩ 6 (T := TX5) (N := 40) rfl (by decide) g171 hl.1 rfl (Nat.le_of_ble_eq_true rfl) dL_law_1058 ⟨by show _ + 0 ≤ 601024; omega, by show _ + 0 ≤ 7293034; omega⟩ (fun H locs hp => ?_)
  refine lv_icmp_eq (tgt := 1309) hx hb dL_law_1061 (by decide) (fun c175 => ?_) (fun c175 => ?_)
  · have hF := if_p c175 hF
    exact b_L_law_1309 hV hVs hs hVx hn0 hXs hbl hbd X k18 hmk18 hk18 _ _ _ _ _ _ _ _ _ _ (by omega) hp (lv_sub hl [0, 1, 2, 3] rfl) hF
  · have hF := if_n c175 hF
    refine lv_iconst (v := 0) hx hb dL_law_1064 (by decide) ?_
    exact absurd (lw_01 hF) (by decide)
def fb_L_law_1066 (V : Nat → Nat) (xs : Nat → Int32) (L : Nat) (k18 : mSh → mMm → Nat → Nat → Nat → Nat → Int32 → Option (Int32 × mSh × mMm × Nat × Nat)) (S : mSh) (M : mMm) (n z : Nat) (x1 : Nat) (x2 : Nat) (x3 : Int32) : Option (Int32 × mSh × mMm × Nat × Nat) := gd (¬ ((x3 + (1 : Int32)) < 0 ∨ L ≤ (x3 + (1 : Int32)).toNatClampNeg)) (gd ((S x1).1 = 1) (ob (f_X0_apart S M x1 (xs (x3 + (1 : Int32)).toNatClampNeg)) fun ⟨v155, M156⟩ => gd (¬ ((x3 + (1 : Int32)) < 0 ∨ L ≤ (x3 + (1 : Int32)).toNatClampNeg)) (gd ((S x2).1 = 6) (ob (f_X5_apart S M156 x2 (xs (x3 + (1 : Int32)).toNatClampNeg)) fun ⟨v160, M161⟩ => (if v155 = v160 then (fb_L_law_1309 V xs L k18 S M161 n z x1 x2 x3) else some ((0 : Int32), S, M161, n, z))))))
theorem mn_L_law_1066 {S' : mSh} {M' : mMm} {n' z' : Nat} (k18 : mSh → mMm → Nat → Nat → Nat → Nat → Int32 → Option (Int32 × mSh × mMm × Nat × Nat)) (hmk18 : ∀ {S : mSh} {M : mMm} {n z : Nat} {x1 : Nat} {x2 : Nat} {x3 : Int32}, k18 S M n z x1 x2 x3 = some (1, S', M', n', z') → n ≤ n' ∧ z ≤ z') : ∀ {S : mSh} {M : mMm} {n z : Nat} {x1 : Nat} {x2 : Nat} {x3 : Int32}, fb_L_law_1066 V xs L k18 S M n z x1 x2 x3 = some (1, S', M', n', z') → n ≤ n' ∧ z ≤ z' := by
  intro S M n z x1 x2 x3 hF
  unfold fb_L_law_1066 at hF
  obtain ⟨g152, hF⟩ := gd_s hF
  obtain ⟨g153, hF⟩ := gd_s hF
  obtain ⟨⟨v155, M156⟩, e154, hF⟩ := ob_s hF
  obtain ⟨g157, hF⟩ := gd_s hF
  obtain ⟨g158, hF⟩ := gd_s hF
  obtain ⟨⟨v160, M161⟩, e159, hF⟩ := ob_s hF
  rcases Decidable.em (v155 = v160) with c162 | c162
  · have hF := if_p c162 hF
    have h9 := (mn_L_law_1309 (V := V) (xs := xs) (L := L) k18 hmk18) hF
    exact ⟨by omega, by omega⟩
  · have hF := if_n c162 hF
    exact absurd (lw_01 hF) (by decide)
theorem b_L_law_1066 {S' : mSh} {M' : mMm} {n' z' : Nat} (hV : mV V n0 P) (hVs : mVs V n0 P) (hs : l.stackTraces = false) (hVx : mVx n0 P) (hn0 : s.heap.size = n0) (hXs : va_X b L xs s s.heap) (hbl : b < n0) (hbd : n' - n0 ≤ 601024 ∧ z' ≤ 7293034) (X : mCx D n0 P p m c cL_law 4 s #[Value.ref b] "WindingSquareLaw" meth (some .boolean)) (k18 : mSh → mMm → Nat → Nat → Nat → Nat → Int32 → Option (Int32 × mSh × mMm × Nat × Nat)) (hmk18 : ∀ {S : mSh} {M : mMm} {n z : Nat} {x1 : Nat} {x2 : Nat} {x3 : Int32}, k18 S M n z x1 x2 x3 = some (1, S', M', n', z') → n ≤ n' ∧ z ≤ z') (hk18 : ∀ (S : mSh) (M : mMm) (n z : Nat) (x1 : Nat) (x2 : Nat) (x3 : Int32) (H : Heap) (locs : List Loc) (ls : Array Slot), n0 ≤ n → mHp D n0 S M n s H locs → lv_has ls 4 [(0, .ref b), (1, .ref x1), (2, .ref x2), (3, .int x3)] → k18 S M n z x1 x2 x3 = some (1, S', M', n', z') → W p l e room_1 s m #[Value.ref b] below meth c H locs (n - n0) (z) (lw_Z below #[Value.ref b] s) (F0 m 18 ls [])) : ∀ (S : mSh) (M : mMm) (n z : Nat) (x1 : Nat) (x2 : Nat) (x3 : Int32) (H : Heap) (locs : List Loc) (ls : Array Slot), n0 ≤ n → mHp D n0 S M n s H locs → lv_has ls 4 [(0, .ref b), (1, .ref x1), (2, .ref x2), (3, .int x3)] → fb_L_law_1066 V xs L k18 S M n z x1 x2 x3 = some (1, S', M', n', z') → W p l e room_1 s m #[Value.ref b] below meth c H locs (n - n0) (z) (lw_Z below #[Value.ref b] s) (F0 m 1066 ls []) := by
  have hx := X.1.1
  have hb := X.1.2.1
  have hown := X.1.2.2.2.1
  have hts := X.1.2.2.2.2
  intro S M n z x1 x2 x3 H locs ls hn hp hl hF
  have hm0 := mn_L_law_1066 _ hmk18 hF
  unfold fb_L_law_1066 at hF
  refine lv_aload_n hx hb dL_law_1066 rfl (lv_at hl 1 rfl) ?_
  refine lv_aload_n hx hb dL_law_1067 rfl (lv_at hl 0 rfl) ?_
  refine lv_iload_n hx hb dL_law_1068 rfl (lv_at hl 3 rfl) ?_
  refine lv_iconst (v := 1) hx hb dL_law_1069 (by decide) ?_
  refine lv_iadd hx hb dL_law_1070 ?_
  obtain ⟨g152, hF⟩ := gd_s hF
  refine va_sld hx hb hXs (by rw [hn0]; exact hbl) (fun h => Nat.not_le.mpr hbl h) hp.2 g152 dL_law_1071 ?_
  obtain ⟨g153, hF⟩ := gd_s hF
  obtain ⟨⟨v155, M156⟩, e154, hF⟩ := ob_s hF
  refine m_callV (As := [.int (xs (x3 + (1 : Int32)).toNatClampNeg)]) (rest := []) X hp (w_X0_apart e154) q1351 q1352 q1353 q132 q1354 1 rfl ds_X0_apart ⟨Nat.le_of_ble_eq_true rfl, Nat.le_of_ble_eq_true rfl⟩ 1 (T := TX0) (N := 30) rfl (by decide) g153 hl.1 rfl (Nat.le_of_ble_eq_true rfl) dL_law_1072 ⟨by show _ + 0 ≤ 601024; omega, by show _ + 0 ≤ 7293034; omega⟩ (fun H locs hp => ?_)
  refine lv_aload_n hx hb dL_law_1075 rfl (lv_at hl 2 rfl) ?_
  refine lv_aload_n hx hb dL_law_1076 rfl (lv_at hl 0 rfl) ?_
  refine lv_iload_n hx hb dL_law_1077 rfl (lv_at hl 3 rfl) ?_
  refine lv_iconst (v := 1) hx hb dL_law_1078 (by decide) ?_
  refine lv_iadd hx hb dL_law_1079 ?_
  obtain ⟨g157, hF⟩ := gd_s hF
  refine va_sld hx hb hXs (by rw [hn0]; exact hbl) (fun h => Nat.not_le.mpr hbl h) hp.2 g157 dL_law_1080 ?_
  obtain ⟨g158, hF⟩ := gd_s hF
  obtain ⟨⟨v160, M161⟩, e159, hF⟩ := ob_s hF
  refine m_callV (As := [.int (xs (x3 + (1 : Int32)).toNatClampNeg)]) (rest := [.int v155]) X hp (w_X5_apart e159) q2020 q2021 q2022 q144 q2023 1 rfl ds_X5_apart ⟨Nat.le_of_ble_eq_true rfl, Nat.le_of_ble_eq_true rfl⟩ 6 (T := TX5) (N := 40) rfl (by decide) g158 hl.1 rfl (Nat.le_of_ble_eq_true rfl) dL_law_1081 ⟨by show _ + 0 ≤ 601024; omega, by show _ + 0 ≤ 7293034; omega⟩ (fun H locs hp => ?_)
  refine lv_icmp_eq (tgt := 1309) hx hb dL_law_1084 (by decide) (fun c162 => ?_) (fun c162 => ?_)
  · have hF := if_p c162 hF
    exact b_L_law_1309 hV hVs hs hVx hn0 hXs hbl hbd X k18 hmk18 hk18 _ _ _ _ _ _ _ _ _ _ (by omega) hp (lv_sub hl [0, 1, 2, 3] rfl) hF
  · have hF := if_n c162 hF
    refine lv_iconst (v := 0) hx hb dL_law_1087 (by decide) ?_
    exact absurd (lw_01 hF) (by decide)
def fb_L_law_1089 (V : Nat → Nat) (xs : Nat → Int32) (L : Nat) (k18 : mSh → mMm → Nat → Nat → Nat → Nat → Int32 → Option (Int32 × mSh × mMm × Nat × Nat)) (S : mSh) (M : mMm) (n z : Nat) (x1 : Nat) (x2 : Nat) (x3 : Int32) : Option (Int32 × mSh × mMm × Nat × Nat) := gd (¬ ((x3 + (1 : Int32)) < 0 ∨ L ≤ (x3 + (1 : Int32)).toNatClampNeg)) (gd (¬ ((x3 + (2 : Int32)) < 0 ∨ L ≤ (x3 + (2 : Int32)).toNatClampNeg)) (gd ((S x1).1 = 1) (ob (f_X0_gap S M x1 (xs (x3 + (1 : Int32)).toNatClampNeg) (xs (x3 + (2 : Int32)).toNatClampNeg)) fun ⟨v143, M144⟩ => gd (¬ ((x3 + (1 : Int32)) < 0 ∨ L ≤ (x3 + (1 : Int32)).toNatClampNeg)) (gd (¬ ((x3 + (2 : Int32)) < 0 ∨ L ≤ (x3 + (2 : Int32)).toNatClampNeg)) (gd ((S x2).1 = 6) (ob (f_X5_gap S M144 x2 (xs (x3 + (1 : Int32)).toNatClampNeg) (xs (x3 + (2 : Int32)).toNatClampNeg)) fun ⟨v149, M150⟩ => (if v143 = v149 then (fb_L_law_1309 V xs L k18 S M150 n z x1 x2 x3) else some ((0 : Int32), S, M150, n, z))))))))
theorem mn_L_law_1089 {S' : mSh} {M' : mMm} {n' z' : Nat} (k18 : mSh → mMm → Nat → Nat → Nat → Nat → Int32 → Option (Int32 × mSh × mMm × Nat × Nat)) (hmk18 : ∀ {S : mSh} {M : mMm} {n z : Nat} {x1 : Nat} {x2 : Nat} {x3 : Int32}, k18 S M n z x1 x2 x3 = some (1, S', M', n', z') → n ≤ n' ∧ z ≤ z') : ∀ {S : mSh} {M : mMm} {n z : Nat} {x1 : Nat} {x2 : Nat} {x3 : Int32}, fb_L_law_1089 V xs L k18 S M n z x1 x2 x3 = some (1, S', M', n', z') → n ≤ n' ∧ z ≤ z' := by
  intro S M n z x1 x2 x3 hF
  unfold fb_L_law_1089 at hF
  obtain ⟨g139, hF⟩ := gd_s hF
  obtain ⟨g140, hF⟩ := gd_s hF
  obtain ⟨g141, hF⟩ := gd_s hF
  obtain ⟨⟨v143, M144⟩, e142, hF⟩ := ob_s hF
  obtain ⟨g145, hF⟩ := gd_s hF
  obtain ⟨g146, hF⟩ := gd_s hF
  obtain ⟨g147, hF⟩ := gd_s hF
  obtain ⟨⟨v149, M150⟩, e148, hF⟩ := ob_s hF
  rcases Decidable.em (v143 = v149) with c151 | c151
  · have hF := if_p c151 hF
    have h9 := (mn_L_law_1309 (V := V) (xs := xs) (L := L) k18 hmk18) hF
    exact ⟨by omega, by omega⟩
  · have hF := if_n c151 hF
    exact absurd (lw_01 hF) (by decide)
theorem b_L_law_1089 {S' : mSh} {M' : mMm} {n' z' : Nat} (hV : mV V n0 P) (hVs : mVs V n0 P) (hs : l.stackTraces = false) (hVx : mVx n0 P) (hn0 : s.heap.size = n0) (hXs : va_X b L xs s s.heap) (hbl : b < n0) (hbd : n' - n0 ≤ 601024 ∧ z' ≤ 7293034) (X : mCx D n0 P p m c cL_law 4 s #[Value.ref b] "WindingSquareLaw" meth (some .boolean)) (k18 : mSh → mMm → Nat → Nat → Nat → Nat → Int32 → Option (Int32 × mSh × mMm × Nat × Nat)) (hmk18 : ∀ {S : mSh} {M : mMm} {n z : Nat} {x1 : Nat} {x2 : Nat} {x3 : Int32}, k18 S M n z x1 x2 x3 = some (1, S', M', n', z') → n ≤ n' ∧ z ≤ z') (hk18 : ∀ (S : mSh) (M : mMm) (n z : Nat) (x1 : Nat) (x2 : Nat) (x3 : Int32) (H : Heap) (locs : List Loc) (ls : Array Slot), n0 ≤ n → mHp D n0 S M n s H locs → lv_has ls 4 [(0, .ref b), (1, .ref x1), (2, .ref x2), (3, .int x3)] → k18 S M n z x1 x2 x3 = some (1, S', M', n', z') → W p l e room_1 s m #[Value.ref b] below meth c H locs (n - n0) (z) (lw_Z below #[Value.ref b] s) (F0 m 18 ls [])) : ∀ (S : mSh) (M : mMm) (n z : Nat) (x1 : Nat) (x2 : Nat) (x3 : Int32) (H : Heap) (locs : List Loc) (ls : Array Slot), n0 ≤ n → mHp D n0 S M n s H locs → lv_has ls 4 [(0, .ref b), (1, .ref x1), (2, .ref x2), (3, .int x3)] → fb_L_law_1089 V xs L k18 S M n z x1 x2 x3 = some (1, S', M', n', z') → W p l e room_1 s m #[Value.ref b] below meth c H locs (n - n0) (z) (lw_Z below #[Value.ref b] s) (F0 m 1089 ls []) := by
  have hx := X.1.1
  have hb := X.1.2.1
  have hown := X.1.2.2.2.1
  have hts := X.1.2.2.2.2
  intro S M n z x1 x2 x3 H locs ls hn hp hl hF
  have hm0 := mn_L_law_1089 _ hmk18 hF
  unfold fb_L_law_1089 at hF
  refine lv_aload_n hx hb dL_law_1089 rfl (lv_at hl 1 rfl) ?_
  refine lv_aload_n hx hb dL_law_1090 rfl (lv_at hl 0 rfl) ?_
  refine lv_iload_n hx hb dL_law_1091 rfl (lv_at hl 3 rfl) ?_
  refine lv_iconst (v := 1) hx hb dL_law_1092 (by decide) ?_
  refine lv_iadd hx hb dL_law_1093 ?_
  obtain ⟨g139, hF⟩ := gd_s hF
  refine va_sld hx hb hXs (by rw [hn0]; exact hbl) (fun h => Nat.not_le.mpr hbl h) hp.2 g139 dL_law_1094 ?_
  refine lv_aload_n hx hb dL_law_1095 rfl (lv_at hl 0 rfl) ?_
  refine lv_iload_n hx hb dL_law_1096 rfl (lv_at hl 3 rfl) ?_
  refine lv_iconst (v := 2) hx hb dL_law_1097 (by decide) ?_
  refine lv_iadd hx hb dL_law_1098 ?_
  obtain ⟨g140, hF⟩ := gd_s hF
  refine va_sld hx hb hXs (by rw [hn0]; exact hbl) (fun h => Nat.not_le.mpr hbl h) hp.2 g140 dL_law_1099 ?_
  obtain ⟨g141, hF⟩ := gd_s hF
  obtain ⟨⟨v143, M144⟩, e142, hF⟩ := ob_s hF
  refine m_callV (As := [.int (xs (x3 + (1 : Int32)).toNatClampNeg), .int (xs (x3 + (2 : Int32)).toNatClampNeg)]) (rest := []) X hp (w_X0_gap e142) q1379 q1380 q1381 q132 q1382 2 rfl ds_X0_gap ⟨Nat.le_of_ble_eq_true rfl, Nat.le_of_ble_eq_true rfl⟩ 1 (T := TX0) (N := 30) rfl (by decide) g141 hl.1 rfl (Nat.le_of_ble_eq_true rfl) dL_law_1100 ⟨by show _ + 0 ≤ 601024; omega, by show _ + 0 ≤ 7293034; omega⟩ (fun H locs hp => ?_)
  refine lv_aload_n hx hb dL_law_1103 rfl (lv_at hl 2 rfl) ?_
  refine lv_aload_n hx hb dL_law_1104 rfl (lv_at hl 0 rfl) ?_
  refine lv_iload_n hx hb dL_law_1105 rfl (lv_at hl 3 rfl) ?_
  refine lv_iconst (v := 1) hx hb dL_law_1106 (by decide) ?_
  refine lv_iadd hx hb dL_law_1107 ?_
  obtain ⟨g145, hF⟩ := gd_s hF
  refine va_sld hx hb hXs (by rw [hn0]; exact hbl) (fun h => Nat.not_le.mpr hbl h) hp.2 g145 dL_law_1108 ?_
  refine lv_aload_n hx hb dL_law_1109 rfl (lv_at hl 0 rfl) ?_
  refine lv_iload_n hx hb dL_law_1110 rfl (lv_at hl 3 rfl) ?_
  refine lv_iconst (v := 2) hx hb dL_law_1111 (by decide) ?_
  refine lv_iadd hx hb dL_law_1112 ?_
  obtain ⟨g146, hF⟩ := gd_s hF
  refine va_sld hx hb hXs (by rw [hn0]; exact hbl) (fun h => Nat.not_le.mpr hbl h) hp.2 g146 dL_law_1113 ?_
  obtain ⟨g147, hF⟩ := gd_s hF
  obtain ⟨⟨v149, M150⟩, e148, hF⟩ := ob_s hF
  refine m_callV (As := [.int (xs (x3 + (1 : Int32)).toNatClampNeg), .int (xs (x3 + (2 : Int32)).toNatClampNeg)]) (rest := [.int v143]) X hp (w_X5_gap e148) q1989 q1990 q1991 q144 q1992 2 rfl ds_X5_gap ⟨Nat.le_of_ble_eq_true rfl, Nat.le_of_ble_eq_true rfl⟩ 6 (T := TX5) (N := 40) rfl (by decide) g147 hl.1 rfl (Nat.le_of_ble_eq_true rfl) dL_law_1114 ⟨by show _ + 0 ≤ 601024; omega, by show _ + 0 ≤ 7293034; omega⟩ (fun H locs hp => ?_)
  refine lv_icmp_eq (tgt := 1309) hx hb dL_law_1117 (by decide) (fun c151 => ?_) (fun c151 => ?_)
  · have hF := if_p c151 hF
    exact b_L_law_1309 hV hVs hs hVx hn0 hXs hbl hbd X k18 hmk18 hk18 _ _ _ _ _ _ _ _ _ _ (by omega) hp (lv_sub hl [0, 1, 2, 3] rfl) hF
  · have hF := if_n c151 hF
    refine lv_iconst (v := 0) hx hb dL_law_1120 (by decide) ?_
    exact absurd (lw_01 hF) (by decide)
def fb_L_law_1122 (V : Nat → Nat) (xs : Nat → Int32) (L : Nat) (k18 : mSh → mMm → Nat → Nat → Nat → Nat → Int32 → Option (Int32 × mSh × mMm × Nat × Nat)) (S : mSh) (M : mMm) (n z : Nat) (x1 : Nat) (x2 : Nat) (x3 : Int32) : Option (Int32 × mSh × mMm × Nat × Nat) := gd ((S x1).1 = 1) (ob (f_X0_hedge S M x1) fun ⟨v132, M133⟩ => gd ((S x2).1 = 6) (ob (f_X5_hedge S M133 x2) fun ⟨v136, M137⟩ => (if v132 = v136 then (fb_L_law_1309 V xs L k18 S M137 n z x1 x2 x3) else some ((0 : Int32), S, M137, n, z))))
theorem mn_L_law_1122 {S' : mSh} {M' : mMm} {n' z' : Nat} (k18 : mSh → mMm → Nat → Nat → Nat → Nat → Int32 → Option (Int32 × mSh × mMm × Nat × Nat)) (hmk18 : ∀ {S : mSh} {M : mMm} {n z : Nat} {x1 : Nat} {x2 : Nat} {x3 : Int32}, k18 S M n z x1 x2 x3 = some (1, S', M', n', z') → n ≤ n' ∧ z ≤ z') : ∀ {S : mSh} {M : mMm} {n z : Nat} {x1 : Nat} {x2 : Nat} {x3 : Int32}, fb_L_law_1122 V xs L k18 S M n z x1 x2 x3 = some (1, S', M', n', z') → n ≤ n' ∧ z ≤ z' := by
  intro S M n z x1 x2 x3 hF
  unfold fb_L_law_1122 at hF
  obtain ⟨g130, hF⟩ := gd_s hF
  obtain ⟨⟨v132, M133⟩, e131, hF⟩ := ob_s hF
  obtain ⟨g134, hF⟩ := gd_s hF
  obtain ⟨⟨v136, M137⟩, e135, hF⟩ := ob_s hF
  rcases Decidable.em (v132 = v136) with c138 | c138
  · have hF := if_p c138 hF
    have h9 := (mn_L_law_1309 (V := V) (xs := xs) (L := L) k18 hmk18) hF
    exact ⟨by omega, by omega⟩
  · have hF := if_n c138 hF
    exact absurd (lw_01 hF) (by decide)
theorem b_L_law_1122 {S' : mSh} {M' : mMm} {n' z' : Nat} (hV : mV V n0 P) (hVs : mVs V n0 P) (hs : l.stackTraces = false) (hVx : mVx n0 P) (hn0 : s.heap.size = n0) (hXs : va_X b L xs s s.heap) (hbl : b < n0) (hbd : n' - n0 ≤ 601024 ∧ z' ≤ 7293034) (X : mCx D n0 P p m c cL_law 4 s #[Value.ref b] "WindingSquareLaw" meth (some .boolean)) (k18 : mSh → mMm → Nat → Nat → Nat → Nat → Int32 → Option (Int32 × mSh × mMm × Nat × Nat)) (hmk18 : ∀ {S : mSh} {M : mMm} {n z : Nat} {x1 : Nat} {x2 : Nat} {x3 : Int32}, k18 S M n z x1 x2 x3 = some (1, S', M', n', z') → n ≤ n' ∧ z ≤ z') (hk18 : ∀ (S : mSh) (M : mMm) (n z : Nat) (x1 : Nat) (x2 : Nat) (x3 : Int32) (H : Heap) (locs : List Loc) (ls : Array Slot), n0 ≤ n → mHp D n0 S M n s H locs → lv_has ls 4 [(0, .ref b), (1, .ref x1), (2, .ref x2), (3, .int x3)] → k18 S M n z x1 x2 x3 = some (1, S', M', n', z') → W p l e room_1 s m #[Value.ref b] below meth c H locs (n - n0) (z) (lw_Z below #[Value.ref b] s) (F0 m 18 ls [])) : ∀ (S : mSh) (M : mMm) (n z : Nat) (x1 : Nat) (x2 : Nat) (x3 : Int32) (H : Heap) (locs : List Loc) (ls : Array Slot), n0 ≤ n → mHp D n0 S M n s H locs → lv_has ls 4 [(0, .ref b), (1, .ref x1), (2, .ref x2), (3, .int x3)] → fb_L_law_1122 V xs L k18 S M n z x1 x2 x3 = some (1, S', M', n', z') → W p l e room_1 s m #[Value.ref b] below meth c H locs (n - n0) (z) (lw_Z below #[Value.ref b] s) (F0 m 1122 ls []) := by
  have hx := X.1.1
  have hb := X.1.2.1
  have hown := X.1.2.2.2.1
  have hts := X.1.2.2.2.2
  intro S M n z x1 x2 x3 H locs ls hn hp hl hF
  have hm0 := mn_L_law_1122 _ hmk18 hF
  unfold fb_L_law_1122 at hF
  refine lv_aload_n hx hb dL_law_1122 rfl (lv_at hl 1 rfl) ?_
  obtain ⟨g130, hF⟩ := gd_s hF
  obtain ⟨⟨v132, M133⟩, e131, hF⟩ := ob_s hF
  refine m_callV (As := []) (rest := []) X hp (w_X0_hedge e131) q1383 q1384 q1385 q132 q1386 0 rfl ds_X0_hedge ⟨Nat.le_of_ble_eq_true rfl, Nat.le_of_ble_eq_true rfl⟩ 1 (T := TX0) (N := 30) rfl (by decide) g130 hl.1 rfl (Nat.le_of_ble_eq_true rfl) dL_law_1123 ⟨by show _ + 0 ≤ 601024; omega, by show _ + 0 ≤ 7293034; omega⟩ (fun H locs hp => ?_)
  refine lv_aload_n hx hb dL_law_1126 rfl (lv_at hl 2 rfl) ?_
  obtain ⟨g134, hF⟩ := gd_s hF
  obtain ⟨⟨v136, M137⟩, e135, hF⟩ := ob_s hF
  refine m_callV (As := []) (rest := [.int v132]) X hp (w_X5_hedge e135) q1993 q1994 q1995 q144 q1996 0 rfl ds_X5_hedge ⟨Nat.le_of_ble_eq_true rfl, Nat.le_of_ble_eq_true rfl⟩ 6 (T := TX5) (N := 40) rfl (by decide) g134 hl.1 rfl (Nat.le_of_ble_eq_true rfl) dL_law_1127 ⟨by show _ + 0 ≤ 601024; omega, by show _ + 0 ≤ 7293034; omega⟩ (fun H locs hp => ?_)
  refine lv_icmp_eq (tgt := 1309) hx hb dL_law_1130 (by decide) (fun c138 => ?_) (fun c138 => ?_)
  · have hF := if_p c138 hF
    exact b_L_law_1309 hV hVs hs hVx hn0 hXs hbl hbd X k18 hmk18 hk18 _ _ _ _ _ _ _ _ _ _ (by omega) hp (lv_sub hl [0, 1, 2, 3] rfl) hF
  · have hF := if_n c138 hF
    refine lv_iconst (v := 0) hx hb dL_law_1133 (by decide) ?_
    exact absurd (lw_01 hF) (by decide)
def fb_L_law_1135 (V : Nat → Nat) (xs : Nat → Int32) (L : Nat) (k18 : mSh → mMm → Nat → Nat → Nat → Nat → Int32 → Option (Int32 × mSh × mMm × Nat × Nat)) (S : mSh) (M : mMm) (n z : Nat) (x1 : Nat) (x2 : Nat) (x3 : Int32) : Option (Int32 × mSh × mMm × Nat × Nat) := gd (¬ ((x3 + (1 : Int32)) < 0 ∨ L ≤ (x3 + (1 : Int32)).toNatClampNeg)) (gd (¬ ((x3 + (2 : Int32)) < 0 ∨ L ≤ (x3 + (2 : Int32)).toNatClampNeg)) (gd ((S x1).1 = 1) (ob (f_X0_meets S M x1 (xs (x3 + (1 : Int32)).toNatClampNeg) (xs (x3 + (2 : Int32)).toNatClampNeg)) fun ⟨v121, M122⟩ => gd (¬ ((x3 + (1 : Int32)) < 0 ∨ L ≤ (x3 + (1 : Int32)).toNatClampNeg)) (gd (¬ ((x3 + (2 : Int32)) < 0 ∨ L ≤ (x3 + (2 : Int32)).toNatClampNeg)) (gd ((S x2).1 = 6) (ob (f_X5_meets S M122 x2 (xs (x3 + (1 : Int32)).toNatClampNeg) (xs (x3 + (2 : Int32)).toNatClampNeg)) fun ⟨v127, M128⟩ => (if v121 = v127 then (fb_L_law_1309 V xs L k18 S M128 n z x1 x2 x3) else some ((0 : Int32), S, M128, n, z))))))))
theorem mn_L_law_1135 {S' : mSh} {M' : mMm} {n' z' : Nat} (k18 : mSh → mMm → Nat → Nat → Nat → Nat → Int32 → Option (Int32 × mSh × mMm × Nat × Nat)) (hmk18 : ∀ {S : mSh} {M : mMm} {n z : Nat} {x1 : Nat} {x2 : Nat} {x3 : Int32}, k18 S M n z x1 x2 x3 = some (1, S', M', n', z') → n ≤ n' ∧ z ≤ z') : ∀ {S : mSh} {M : mMm} {n z : Nat} {x1 : Nat} {x2 : Nat} {x3 : Int32}, fb_L_law_1135 V xs L k18 S M n z x1 x2 x3 = some (1, S', M', n', z') → n ≤ n' ∧ z ≤ z' := by
  intro S M n z x1 x2 x3 hF
  unfold fb_L_law_1135 at hF
  obtain ⟨g117, hF⟩ := gd_s hF
  obtain ⟨g118, hF⟩ := gd_s hF
  obtain ⟨g119, hF⟩ := gd_s hF
  obtain ⟨⟨v121, M122⟩, e120, hF⟩ := ob_s hF
  obtain ⟨g123, hF⟩ := gd_s hF
  obtain ⟨g124, hF⟩ := gd_s hF
  obtain ⟨g125, hF⟩ := gd_s hF
  obtain ⟨⟨v127, M128⟩, e126, hF⟩ := ob_s hF
  rcases Decidable.em (v121 = v127) with c129 | c129
  · have hF := if_p c129 hF
    have h9 := (mn_L_law_1309 (V := V) (xs := xs) (L := L) k18 hmk18) hF
    exact ⟨by omega, by omega⟩
  · have hF := if_n c129 hF
    exact absurd (lw_01 hF) (by decide)
theorem b_L_law_1135 {S' : mSh} {M' : mMm} {n' z' : Nat} (hV : mV V n0 P) (hVs : mVs V n0 P) (hs : l.stackTraces = false) (hVx : mVx n0 P) (hn0 : s.heap.size = n0) (hXs : va_X b L xs s s.heap) (hbl : b < n0) (hbd : n' - n0 ≤ 601024 ∧ z' ≤ 7293034) (X : mCx D n0 P p m c cL_law 4 s #[Value.ref b] "WindingSquareLaw" meth (some .boolean)) (k18 : mSh → mMm → Nat → Nat → Nat → Nat → Int32 → Option (Int32 × mSh × mMm × Nat × Nat)) (hmk18 : ∀ {S : mSh} {M : mMm} {n z : Nat} {x1 : Nat} {x2 : Nat} {x3 : Int32}, k18 S M n z x1 x2 x3 = some (1, S', M', n', z') → n ≤ n' ∧ z ≤ z') (hk18 : ∀ (S : mSh) (M : mMm) (n z : Nat) (x1 : Nat) (x2 : Nat) (x3 : Int32) (H : Heap) (locs : List Loc) (ls : Array Slot), n0 ≤ n → mHp D n0 S M n s H locs → lv_has ls 4 [(0, .ref b), (1, .ref x1), (2, .ref x2), (3, .int x3)] → k18 S M n z x1 x2 x3 = some (1, S', M', n', z') → W p l e room_1 s m #[Value.ref b] below meth c H locs (n - n0) (z) (lw_Z below #[Value.ref b] s) (F0 m 18 ls [])) : ∀ (S : mSh) (M : mMm) (n z : Nat) (x1 : Nat) (x2 : Nat) (x3 : Int32) (H : Heap) (locs : List Loc) (ls : Array Slot), n0 ≤ n → mHp D n0 S M n s H locs → lv_has ls 4 [(0, .ref b), (1, .ref x1), (2, .ref x2), (3, .int x3)] → fb_L_law_1135 V xs L k18 S M n z x1 x2 x3 = some (1, S', M', n', z') → W p l e room_1 s m #[Value.ref b] below meth c H locs (n - n0) (z) (lw_Z below #[Value.ref b] s) (F0 m 1135 ls []) := by
  have hx := X.1.1
  have hb := X.1.2.1
  have hown := X.1.2.2.2.1
  have hts := X.1.2.2.2.2
  intro S M n z x1 x2 x3 H locs ls hn hp hl hF
  have hm0 := mn_L_law_1135 _ hmk18 hF
  unfold fb_L_law_1135 at hF
  refine lv_aload_n hx hb dL_law_1135 rfl (lv_at hl 1 rfl) ?_
  refine lv_aload_n hx hb dL_law_1136 rfl (lv_at hl 0 rfl) ?_
  refine lv_iload_n hx hb dL_law_1137 rfl (lv_at hl 3 rfl) ?_
  refine lv_iconst (v := 1) hx hb dL_law_1138 (by decide) ?_
  refine lv_iadd hx hb dL_law_1139 ?_
  obtain ⟨g117, hF⟩ := gd_s hF
  refine va_sld hx hb hXs (by rw [hn0]; exact hbl) (fun h => Nat.not_le.mpr hbl h) hp.2 g117 dL_law_1140 ?_
  refine lv_aload_n hx hb dL_law_1141 rfl (lv_at hl 0 rfl) ?_
  refine lv_iload_n hx hb dL_law_1142 rfl (lv_at hl 3 rfl) ?_
  refine lv_iconst (v := 2) hx hb dL_law_1143 (by decide) ?_
  refine lv_iadd hx hb dL_law_1144 ?_
  obtain ⟨g118, hF⟩ := gd_s hF
  refine va_sld hx hb hXs (by rw [hn0]; exact hbl) (fun h => Nat.not_le.mpr hbl h) hp.2 g118 dL_law_1145 ?_
  obtain ⟨g119, hF⟩ := gd_s hF
  obtain ⟨⟨v121, M122⟩, e120, hF⟩ := ob_s hF
  refine m_callV (As := [.int (xs (x3 + (1 : Int32)).toNatClampNeg), .int (xs (x3 + (2 : Int32)).toNatClampNeg)]) (rest := []) X hp (w_X0_meets e120) q1395 q1396 q1397 q132 q1398 2 rfl ds_X0_meets ⟨Nat.le_of_ble_eq_true rfl, Nat.le_of_ble_eq_true rfl⟩ 1 (T := TX0) (N := 30) rfl (by decide) g119 hl.1 rfl (Nat.le_of_ble_eq_true rfl) dL_law_1146 ⟨by show _ + 0 ≤ 601024; omega, by show _ + 0 ≤ 7293034; omega⟩ (fun H locs hp => ?_)
  refine lv_aload_n hx hb dL_law_1149 rfl (lv_at hl 2 rfl) ?_
  refine lv_aload_n hx hb dL_law_1150 rfl (lv_at hl 0 rfl) ?_
  refine lv_iload_n hx hb dL_law_1151 rfl (lv_at hl 3 rfl) ?_
  refine lv_iconst (v := 1) hx hb dL_law_1152 (by decide) ?_
  refine lv_iadd hx hb dL_law_1153 ?_
  obtain ⟨g123, hF⟩ := gd_s hF
  refine va_sld hx hb hXs (by rw [hn0]; exact hbl) (fun h => Nat.not_le.mpr hbl h) hp.2 g123 dL_law_1154 ?_
  refine lv_aload_n hx hb dL_law_1155 rfl (lv_at hl 0 rfl) ?_
  refine lv_iload_n hx hb dL_law_1156 rfl (lv_at hl 3 rfl) ?_
  refine lv_iconst (v := 2) hx hb dL_law_1157 (by decide) ?_
  refine lv_iadd hx hb dL_law_1158 ?_
  obtain ⟨g124, hF⟩ := gd_s hF
  refine va_sld hx hb hXs (by rw [hn0]; exact hbl) (fun h => Nat.not_le.mpr hbl h) hp.2 g124 dL_law_1159 ?_
  obtain ⟨g125, hF⟩ := gd_s hF
  obtain ⟨⟨v127, M128⟩, e126, hF⟩ := ob_s hF
  refine m_callV (As := [.int (xs (x3 + (1 : Int32)).toNatClampNeg), .int (xs (x3 + (2 : Int32)).toNatClampNeg)]) (rest := [.int v121]) X hp (w_X5_meets e126) q1895 q1896 q1897 q144 q1898 2 rfl ds_X5_meets ⟨Nat.le_of_ble_eq_true rfl, Nat.le_of_ble_eq_true rfl⟩ 6 (T := TX5) (N := 40) rfl (by decide) g125 hl.1 rfl (Nat.le_of_ble_eq_true rfl) dL_law_1160 ⟨by show _ + 0 ≤ 601024; omega, by show _ + 0 ≤ 7293034; omega⟩ (fun H locs hp => ?_)
  refine lv_icmp_eq (tgt := 1309) hx hb dL_law_1163 (by decide) (fun c129 => ?_) (fun c129 => ?_)
  · have hF := if_p c129 hF
    exact b_L_law_1309 hV hVs hs hVx hn0 hXs hbl hbd X k18 hmk18 hk18 _ _ _ _ _ _ _ _ _ _ (by omega) hp (lv_sub hl [0, 1, 2, 3] rfl) hF
  · have hF := if_n c129 hF
    refine lv_iconst (v := 0) hx hb dL_law_1166 (by decide) ?_
    exact absurd (lw_01 hF) (by decide)
def fb_L_law_1177 (V : Nat → Nat) (xs : Nat → Int32) (L : Nat) (k18 : mSh → mMm → Nat → Nat → Nat → Nat → Int32 → Option (Int32 × mSh × mMm × Nat × Nat)) (S : mSh) (M : mMm) (n z : Nat) (x1 : Nat) (x2 : Nat) (x3 : Int32) (y0 : Int32) : Option (Int32 × mSh × mMm × Nat × Nat) := gd (¬ ((x3 + (1 : Int32)) < 0 ∨ L ≤ (x3 + (1 : Int32)).toNatClampNeg)) (gd ((S x2).1 = 6) (ob (f_X5_pigeons S M x2 (xs (x3 + (1 : Int32)).toNatClampNeg)) fun ⟨v114, M115⟩ => (if y0 = v114 then (fb_L_law_1309 V xs L k18 S M115 n z x1 x2 x3) else some ((0 : Int32), S, M115, n, z))))
theorem mn_L_law_1177 {S' : mSh} {M' : mMm} {n' z' : Nat} (k18 : mSh → mMm → Nat → Nat → Nat → Nat → Int32 → Option (Int32 × mSh × mMm × Nat × Nat)) (hmk18 : ∀ {S : mSh} {M : mMm} {n z : Nat} {x1 : Nat} {x2 : Nat} {x3 : Int32}, k18 S M n z x1 x2 x3 = some (1, S', M', n', z') → n ≤ n' ∧ z ≤ z') : ∀ {S : mSh} {M : mMm} {n z : Nat} {x1 : Nat} {x2 : Nat} {x3 : Int32} {y0 : Int32}, fb_L_law_1177 V xs L k18 S M n z x1 x2 x3 y0 = some (1, S', M', n', z') → n ≤ n' ∧ z ≤ z' := by
  intro S M n z x1 x2 x3 y0 hF
  unfold fb_L_law_1177 at hF
  obtain ⟨g111, hF⟩ := gd_s hF
  obtain ⟨g112, hF⟩ := gd_s hF
  obtain ⟨⟨v114, M115⟩, e113, hF⟩ := ob_s hF
  rcases Decidable.em (y0 = v114) with c116 | c116
  · have hF := if_p c116 hF
    have h9 := (mn_L_law_1309 (V := V) (xs := xs) (L := L) k18 hmk18) hF
    exact ⟨by omega, by omega⟩
  · have hF := if_n c116 hF
    exact absurd (lw_01 hF) (by decide)
theorem b_L_law_1177 {S' : mSh} {M' : mMm} {n' z' : Nat} (hV : mV V n0 P) (hVs : mVs V n0 P) (hs : l.stackTraces = false) (hVx : mVx n0 P) (hn0 : s.heap.size = n0) (hXs : va_X b L xs s s.heap) (hbl : b < n0) (hbd : n' - n0 ≤ 601024 ∧ z' ≤ 7293034) (X : mCx D n0 P p m c cL_law 4 s #[Value.ref b] "WindingSquareLaw" meth (some .boolean)) (k18 : mSh → mMm → Nat → Nat → Nat → Nat → Int32 → Option (Int32 × mSh × mMm × Nat × Nat)) (hmk18 : ∀ {S : mSh} {M : mMm} {n z : Nat} {x1 : Nat} {x2 : Nat} {x3 : Int32}, k18 S M n z x1 x2 x3 = some (1, S', M', n', z') → n ≤ n' ∧ z ≤ z') (hk18 : ∀ (S : mSh) (M : mMm) (n z : Nat) (x1 : Nat) (x2 : Nat) (x3 : Int32) (H : Heap) (locs : List Loc) (ls : Array Slot), n0 ≤ n → mHp D n0 S M n s H locs → lv_has ls 4 [(0, .ref b), (1, .ref x1), (2, .ref x2), (3, .int x3)] → k18 S M n z x1 x2 x3 = some (1, S', M', n', z') → W p l e room_1 s m #[Value.ref b] below meth c H locs (n - n0) (z) (lw_Z below #[Value.ref b] s) (F0 m 18 ls [])) : ∀ (S : mSh) (M : mMm) (n z : Nat) (x1 : Nat) (x2 : Nat) (x3 : Int32) (y0 : Int32) (H : Heap) (locs : List Loc) (ls : Array Slot), n0 ≤ n → mHp D n0 S M n s H locs → lv_has ls 4 [(0, .ref b), (1, .ref x1), (2, .ref x2), (3, .int x3)] → fb_L_law_1177 V xs L k18 S M n z x1 x2 x3 y0 = some (1, S', M', n', z') → W p l e room_1 s m #[Value.ref b] below meth c H locs (n - n0) (z) (lw_Z below #[Value.ref b] s) (F0 m 1177 ls [.int y0]) := by
  have hx := X.1.1
  have hb := X.1.2.1
  have hown := X.1.2.2.2.1
  have hts := X.1.2.2.2.2
  intro S M n z x1 x2 x3 y0 H locs ls hn hp hl hF
  have hm0 := mn_L_law_1177 _ hmk18 hF
  unfold fb_L_law_1177 at hF
  refine lv_aload_n hx hb dL_law_1177 rfl (lv_at hl 2 rfl) ?_
  refine lv_aload_n hx hb dL_law_1178 rfl (lv_at hl 0 rfl) ?_
  refine lv_iload_n hx hb dL_law_1179 rfl (lv_at hl 3 rfl) ?_
  refine lv_iconst (v := 1) hx hb dL_law_1180 (by decide) ?_
  refine lv_iadd hx hb dL_law_1181 ?_
  obtain ⟨g111, hF⟩ := gd_s hF
  refine va_sld hx hb hXs (by rw [hn0]; exact hbl) (fun h => Nat.not_le.mpr hbl h) hp.2 g111 dL_law_1182 ?_
  obtain ⟨g112, hF⟩ := gd_s hF
  obtain ⟨⟨v114, M115⟩, e113, hF⟩ := ob_s hF
  refine m_callV (As := [.int (xs (x3 + (1 : Int32)).toNatClampNeg)]) (rest := [.int y0]) X hp (w_X5_pigeons e113) q2028 q2029 q2030 q144 q2031 1 rfl ds_X5_pigeons ⟨Nat.le_of_ble_eq_true rfl, Nat.le_of_ble_eq_true rfl⟩ 6 (T := TX5) (N := 40) rfl (by decide) g112 hl.1 rfl (Nat.le_of_ble_eq_true rfl) dL_law_1183 ⟨by show _ + 0 ≤ 601024; omega, by show _ + 0 ≤ 7293034; omega⟩ (fun H locs hp => ?_)
  refine lv_icmp_eq (tgt := 1309) hx hb dL_law_1186 (by decide) (fun c116 => ?_) (fun c116 => ?_)
  · have hF := if_p c116 hF
    exact b_L_law_1309 hV hVs hs hVx hn0 hXs hbl hbd X k18 hmk18 hk18 _ _ _ _ _ _ _ _ _ _ (by omega) hp (lv_sub hl [0, 1, 2, 3] rfl) hF
  · have hF := if_n c116 hF
    refine lv_iconst (v := 0) hx hb dL_law_1189 (by decide) ?_
    exact absurd (lw_01 hF) (by decide)
def fb_L_law_1168 (V : Nat → Nat) (xs : Nat → Int32) (L : Nat) (k18 : mSh → mMm → Nat → Nat → Nat → Nat → Int32 → Option (Int32 × mSh × mMm × Nat × Nat)) (S : mSh) (M : mMm) (n z : Nat) (x1 : Nat) (x2 : Nat) (x3 : Int32) : Option (Int32 × mSh × mMm × Nat × Nat) := gd (¬ ((x3 + (1 : Int32)) < 0 ∨ L ≤ (x3 + (1 : Int32)).toNatClampNeg)) (gd ((S x1).1 = 1) (ob (f_X0_pigeons V S M n z x1 (xs (x3 + (1 : Int32)).toNatClampNeg)) fun ⟨v106, S108, M107, n109, z110⟩ => (fb_L_law_1177 V xs L k18 S108 M107 n109 z110 x1 x2 x3 v106)))
theorem mn_L_law_1168 {S' : mSh} {M' : mMm} {n' z' : Nat} (k18 : mSh → mMm → Nat → Nat → Nat → Nat → Int32 → Option (Int32 × mSh × mMm × Nat × Nat)) (hmk18 : ∀ {S : mSh} {M : mMm} {n z : Nat} {x1 : Nat} {x2 : Nat} {x3 : Int32}, k18 S M n z x1 x2 x3 = some (1, S', M', n', z') → n ≤ n' ∧ z ≤ z') : ∀ {S : mSh} {M : mMm} {n z : Nat} {x1 : Nat} {x2 : Nat} {x3 : Int32}, fb_L_law_1168 V xs L k18 S M n z x1 x2 x3 = some (1, S', M', n', z') → n ≤ n' ∧ z ≤ z' := by
  intro S M n z x1 x2 x3 hF
  unfold fb_L_law_1168 at hF
  obtain ⟨g103, hF⟩ := gd_s hF
  obtain ⟨g104, hF⟩ := gd_s hF
  obtain ⟨⟨v106, S108, M107, n109, z110⟩, e105, hF⟩ := ob_s hF
  have hc := mn_X0_pigeons e105
  have h9 := (mn_L_law_1177 (V := V) (xs := xs) (L := L) k18 hmk18) hF
  exact ⟨by omega, by omega⟩
theorem b_L_law_1168 {S' : mSh} {M' : mMm} {n' z' : Nat} (hV : mV V n0 P) (hVs : mVs V n0 P) (hs : l.stackTraces = false) (hVx : mVx n0 P) (hn0 : s.heap.size = n0) (hXs : va_X b L xs s s.heap) (hbl : b < n0) (hbd : n' - n0 ≤ 601024 ∧ z' ≤ 7293034) (X : mCx D n0 P p m c cL_law 4 s #[Value.ref b] "WindingSquareLaw" meth (some .boolean)) (k18 : mSh → mMm → Nat → Nat → Nat → Nat → Int32 → Option (Int32 × mSh × mMm × Nat × Nat)) (hmk18 : ∀ {S : mSh} {M : mMm} {n z : Nat} {x1 : Nat} {x2 : Nat} {x3 : Int32}, k18 S M n z x1 x2 x3 = some (1, S', M', n', z') → n ≤ n' ∧ z ≤ z') (hk18 : ∀ (S : mSh) (M : mMm) (n z : Nat) (x1 : Nat) (x2 : Nat) (x3 : Int32) (H : Heap) (locs : List Loc) (ls : Array Slot), n0 ≤ n → mHp D n0 S M n s H locs → lv_has ls 4 [(0, .ref b), (1, .ref x1), (2, .ref x2), (3, .int x3)] → k18 S M n z x1 x2 x3 = some (1, S', M', n', z') → W p l e room_1 s m #[Value.ref b] below meth c H locs (n - n0) (z) (lw_Z below #[Value.ref b] s) (F0 m 18 ls [])) : ∀ (S : mSh) (M : mMm) (n z : Nat) (x1 : Nat) (x2 : Nat) (x3 : Int32) (H : Heap) (locs : List Loc) (ls : Array Slot), n0 ≤ n → mHp D n0 S M n s H locs → lv_has ls 4 [(0, .ref b), (1, .ref x1), (2, .ref x2), (3, .int x3)] → fb_L_law_1168 V xs L k18 S M n z x1 x2 x3 = some (1, S', M', n', z') → W p l e room_1 s m #[Value.ref b] below meth c H locs (n - n0) (z) (lw_Z below #[Value.ref b] s) (F0 m 1168 ls []) := by
  have hx := X.1.1
  have hb := X.1.2.1
  have hown := X.1.2.2.2.1
  have hts := X.1.2.2.2.2
  intro S M n z x1 x2 x3 H locs ls hn hp hl hF
  have hm0 := mn_L_law_1168 _ hmk18 hF
  unfold fb_L_law_1168 at hF
  refine lv_aload_n hx hb dL_law_1168 rfl (lv_at hl 1 rfl) ?_
  refine lv_aload_n hx hb dL_law_1169 rfl (lv_at hl 0 rfl) ?_
  refine lv_iload_n hx hb dL_law_1170 rfl (lv_at hl 3 rfl) ?_
  refine lv_iconst (v := 1) hx hb dL_law_1171 (by decide) ?_
  refine lv_iadd hx hb dL_law_1172 ?_
  obtain ⟨g103, hF⟩ := gd_s hF
  refine va_sld hx hb hXs (by rw [hn0]; exact hbl) (fun h => Nat.not_le.mpr hbl h) hp.2 g103 dL_law_1173 ?_
  obtain ⟨g104, hF⟩ := gd_s hF
  obtain ⟨⟨v106, S108, M107, n109, z110⟩, e105, hF⟩ := ob_s hF
  have hc := mn_X0_pigeons e105
  have hm := (mn_L_law_1177 (V := V) (xs := xs) (L := L) k18 hmk18) hF
  refine m_callV (As := [.int (xs (x3 + (1 : Int32)).toNatClampNeg)]) (rest := []) X hp (w_X0_pigeons hV e105) q1409 q1410 q1411 q132 q1412 1 rfl ds_X0_pigeons ⟨Nat.le_of_ble_eq_true rfl, Nat.le_of_ble_eq_true rfl⟩ 1 (T := TX0) (N := 30) rfl (by decide) g104 hl.1 rfl (Nat.le_of_ble_eq_true rfl) dL_law_1174 ⟨by show _ ≤ 601024; omega, by show _ ≤ 7293034; omega⟩ (fun H locs hp => ?_)
  refine W.widen (k := n109 - n0) (n := z110) (by omega) (by omega) ?_
  exact b_L_law_1177 hV hVs hs hVx hn0 hXs hbl hbd X k18 hmk18 hk18 _ _ _ _ _ _ _ _ _ _ _ (by omega) hp (lv_sub hl [0, 1, 2, 3] rfl) hF
def fb_L_law_1191 (V : Nat → Nat) (xs : Nat → Int32) (L : Nat) (k18 : mSh → mMm → Nat → Nat → Nat → Nat → Int32 → Option (Int32 × mSh × mMm × Nat × Nat)) (S : mSh) (M : mMm) (n z : Nat) (x1 : Nat) (x2 : Nat) (x3 : Int32) : Option (Int32 × mSh × mMm × Nat × Nat) := gd (¬ ((x3 + (1 : Int32)) < 0 ∨ L ≤ (x3 + (1 : Int32)).toNatClampNeg)) (gd (¬ ((x3 + (2 : Int32)) < 0 ∨ L ≤ (x3 + (2 : Int32)).toNatClampNeg)) (gd (¬ ((x3 + (3 : Int32)) < 0 ∨ L ≤ (x3 + (3 : Int32)).toNatClampNeg)) (gd ((S x1).1 = 1) (ob (f_X0_game S M x1 (xs (x3 + (1 : Int32)).toNatClampNeg) (xs (x3 + (2 : Int32)).toNatClampNeg) (xs (x3 + (3 : Int32)).toNatClampNeg)) fun ⟨v93, M94⟩ => gd (¬ ((x3 + (1 : Int32)) < 0 ∨ L ≤ (x3 + (1 : Int32)).toNatClampNeg)) (gd (¬ ((x3 + (2 : Int32)) < 0 ∨ L ≤ (x3 + (2 : Int32)).toNatClampNeg)) (gd (¬ ((x3 + (3 : Int32)) < 0 ∨ L ≤ (x3 + (3 : Int32)).toNatClampNeg)) (gd ((S x2).1 = 6) (ob (f_X5_game S M94 x2 (xs (x3 + (1 : Int32)).toNatClampNeg) (xs (x3 + (2 : Int32)).toNatClampNeg) (xs (x3 + (3 : Int32)).toNatClampNeg)) fun ⟨v100, M101⟩ => (if v93 = v100 then (fb_L_law_1309 V xs L k18 S M101 n z x1 x2 x3) else some ((0 : Int32), S, M101, n, z))))))))))
theorem mn_L_law_1191 {S' : mSh} {M' : mMm} {n' z' : Nat} (k18 : mSh → mMm → Nat → Nat → Nat → Nat → Int32 → Option (Int32 × mSh × mMm × Nat × Nat)) (hmk18 : ∀ {S : mSh} {M : mMm} {n z : Nat} {x1 : Nat} {x2 : Nat} {x3 : Int32}, k18 S M n z x1 x2 x3 = some (1, S', M', n', z') → n ≤ n' ∧ z ≤ z') : ∀ {S : mSh} {M : mMm} {n z : Nat} {x1 : Nat} {x2 : Nat} {x3 : Int32}, fb_L_law_1191 V xs L k18 S M n z x1 x2 x3 = some (1, S', M', n', z') → n ≤ n' ∧ z ≤ z' := by
  intro S M n z x1 x2 x3 hF
  unfold fb_L_law_1191 at hF
  obtain ⟨g88, hF⟩ := gd_s hF
  obtain ⟨g89, hF⟩ := gd_s hF
  obtain ⟨g90, hF⟩ := gd_s hF
  obtain ⟨g91, hF⟩ := gd_s hF
  obtain ⟨⟨v93, M94⟩, e92, hF⟩ := ob_s hF
  obtain ⟨g95, hF⟩ := gd_s hF
  obtain ⟨g96, hF⟩ := gd_s hF
  obtain ⟨g97, hF⟩ := gd_s hF
  obtain ⟨g98, hF⟩ := gd_s hF
  obtain ⟨⟨v100, M101⟩, e99, hF⟩ := ob_s hF
  rcases Decidable.em (v93 = v100) with c102 | c102
  · have hF := if_p c102 hF
    have h9 := (mn_L_law_1309 (V := V) (xs := xs) (L := L) k18 hmk18) hF
    exact ⟨by omega, by omega⟩
  · have hF := if_n c102 hF
    exact absurd (lw_01 hF) (by decide)
theorem b_L_law_1191 {S' : mSh} {M' : mMm} {n' z' : Nat} (hV : mV V n0 P) (hVs : mVs V n0 P) (hs : l.stackTraces = false) (hVx : mVx n0 P) (hn0 : s.heap.size = n0) (hXs : va_X b L xs s s.heap) (hbl : b < n0) (hbd : n' - n0 ≤ 601024 ∧ z' ≤ 7293034) (X : mCx D n0 P p m c cL_law 4 s #[Value.ref b] "WindingSquareLaw" meth (some .boolean)) (k18 : mSh → mMm → Nat → Nat → Nat → Nat → Int32 → Option (Int32 × mSh × mMm × Nat × Nat)) (hmk18 : ∀ {S : mSh} {M : mMm} {n z : Nat} {x1 : Nat} {x2 : Nat} {x3 : Int32}, k18 S M n z x1 x2 x3 = some (1, S', M', n', z') → n ≤ n' ∧ z ≤ z') (hk18 : ∀ (S : mSh) (M : mMm) (n z : Nat) (x1 : Nat) (x2 : Nat) (x3 : Int32) (H : Heap) (locs : List Loc) (ls : Array Slot), n0 ≤ n → mHp D n0 S M n s H locs → lv_has ls 4 [(0, .ref b), (1, .ref x1), (2, .ref x2), (3, .int x3)] → k18 S M n z x1 x2 x3 = some (1, S', M', n', z') → W p l e room_1 s m #[Value.ref b] below meth c H locs (n - n0) (z) (lw_Z below #[Value.ref b] s) (F0 m 18 ls [])) : ∀ (S : mSh) (M : mMm) (n z : Nat) (x1 : Nat) (x2 : Nat) (x3 : Int32) (H : Heap) (locs : List Loc) (ls : Array Slot), n0 ≤ n → mHp D n0 S M n s H locs → lv_has ls 4 [(0, .ref b), (1, .ref x1), (2, .ref x2), (3, .int x3)] → fb_L_law_1191 V xs L k18 S M n z x1 x2 x3 = some (1, S', M', n', z') → W p l e room_1 s m #[Value.ref b] below meth c H locs (n - n0) (z) (lw_Z below #[Value.ref b] s) (F0 m 1191 ls []) := by
  have hx := X.1.1
  have hb := X.1.2.1
  have hown := X.1.2.2.2.1
  have hts := X.1.2.2.2.2
  intro S M n z x1 x2 x3 H locs ls hn hp hl hF
  have hm0 := mn_L_law_1191 _ hmk18 hF
  unfold fb_L_law_1191 at hF
  refine lv_aload_n hx hb dL_law_1191 rfl (lv_at hl 1 rfl) ?_
  refine lv_aload_n hx hb dL_law_1192 rfl (lv_at hl 0 rfl) ?_
  refine lv_iload_n hx hb dL_law_1193 rfl (lv_at hl 3 rfl) ?_
  refine lv_iconst (v := 1) hx hb dL_law_1194 (by decide) ?_
  refine lv_iadd hx hb dL_law_1195 ?_
  obtain ⟨g88, hF⟩ := gd_s hF
  refine va_sld hx hb hXs (by rw [hn0]; exact hbl) (fun h => Nat.not_le.mpr hbl h) hp.2 g88 dL_law_1196 ?_
  refine lv_aload_n hx hb dL_law_1197 rfl (lv_at hl 0 rfl) ?_
  refine lv_iload_n hx hb dL_law_1198 rfl (lv_at hl 3 rfl) ?_
  refine lv_iconst (v := 2) hx hb dL_law_1199 (by decide) ?_
  refine lv_iadd hx hb dL_law_1200 ?_
  obtain ⟨g89, hF⟩ := gd_s hF
  refine va_sld hx hb hXs (by rw [hn0]; exact hbl) (fun h => Nat.not_le.mpr hbl h) hp.2 g89 dL_law_1201 ?_
  refine lv_aload_n hx hb dL_law_1202 rfl (lv_at hl 0 rfl) ?_
  refine lv_iload_n hx hb dL_law_1203 rfl (lv_at hl 3 rfl) ?_
  refine lv_iconst (v := 3) hx hb dL_law_1204 (by decide) ?_
  refine lv_iadd hx hb dL_law_1205 ?_
  obtain ⟨g90, hF⟩ := gd_s hF
  refine va_sld hx hb hXs (by rw [hn0]; exact hbl) (fun h => Nat.not_le.mpr hbl h) hp.2 g90 dL_law_1206 ?_
  obtain ⟨g91, hF⟩ := gd_s hF
  obtain ⟨⟨v93, M94⟩, e92, hF⟩ := ob_s hF
  refine m_callV (As := [.int (xs (x3 + (1 : Int32)).toNatClampNeg), .int (xs (x3 + (2 : Int32)).toNatClampNeg), .int (xs (x3 + (3 : Int32)).toNatClampNeg)]) (rest := []) X hp (w_X0_game e92) q1421 q1422 q1423 q132 q1424 3 rfl ds_X0_game ⟨Nat.le_of_ble_eq_true rfl, Nat.le_of_ble_eq_true rfl⟩ 1 (T := TX0) (N := 30) rfl (by decide) g91 hl.1 rfl (Nat.le_of_ble_eq_true rfl) dL_law_1207 ⟨by show _ + 0 ≤ 601024; omega, by show _ + 0 ≤ 7293034; omega⟩ (fun H locs hp => ?_)
  refine lv_aload_n hx hb dL_law_1210 rfl (lv_at hl 2 rfl) ?_
  refine lv_aload_n hx hb dL_law_1211 rfl (lv_at hl 0 rfl) ?_
  refine lv_iload_n hx hb dL_law_1212 rfl (lv_at hl 3 rfl) ?_
  refine lv_iconst (v := 1) hx hb dL_law_1213 (by decide) ?_
  refine lv_iadd hx hb dL_law_1214 ?_
  obtain ⟨g95, hF⟩ := gd_s hF
  refine va_sld hx hb hXs (by rw [hn0]; exact hbl) (fun h => Nat.not_le.mpr hbl h) hp.2 g95 dL_law_1215 ?_
  refine lv_aload_n hx hb dL_law_1216 rfl (lv_at hl 0 rfl) ?_
  refine lv_iload_n hx hb dL_law_1217 rfl (lv_at hl 3 rfl) ?_
  refine lv_iconst (v := 2) hx hb dL_law_1218 (by decide) ?_
  refine lv_iadd hx hb dL_law_1219 ?_
  obtain ⟨g96, hF⟩ := gd_s hF
  refine va_sld hx hb hXs (by rw [hn0]; exact hbl) (fun h => Nat.not_le.mpr hbl h) hp.2 g96 dL_law_1220 ?_
  refine lv_aload_n hx hb dL_law_1221 rfl (lv_at hl 0 rfl) ?_
  refine lv_iload_n hx hb dL_law_1222 rfl (lv_at hl 3 rfl) ?_
  refine lv_iconst (v := 3) hx hb dL_law_1223 (by decide) ?_
  refine lv_iadd hx hb dL_law_1224 ?_
  obtain ⟨g97, hF⟩ := gd_s hF
  refine va_sld hx hb hXs (by rw [hn0]; exact hbl) (fun h => Nat.not_le.mpr hbl h) hp.2 g97 dL_law_1225 ?_
  obtain ⟨g98, hF⟩ := gd_s hF
  obtain ⟨⟨v100, M101⟩, e99, hF⟩ := ob_s hF
  refine m_callV (As := [.int (xs (x3 + (1 : Int32)).toNatClampNeg), .int (xs (x3 + (2 : Int32)).toNatClampNeg), .int (xs (x3 + (3 : Int32)).toNatClampNeg)]) (rest := [.int v93]) X hp (w_X5_game e99) q2040 q2041 q2042 q144 q2043 3 rfl ds_X5_game ⟨Nat.le_of_ble_eq_true rfl, Nat.le_of_ble_eq_true rfl⟩ 6 (T := TX5) (N := 40) rfl (by decide) g98 hl.1 rfl (Nat.le_of_ble_eq_true rfl) dL_law_1226 ⟨by show _ + 0 ≤ 601024; omega, by show _ + 0 ≤ 7293034; omega⟩ (fun H locs hp => ?_)
  refine lv_icmp_eq (tgt := 1309) hx hb dL_law_1229 (by decide) (fun c102 => ?_) (fun c102 => ?_)
  · have hF := if_p c102 hF
    exact b_L_law_1309 hV hVs hs hVx hn0 hXs hbl hbd X k18 hmk18 hk18 _ _ _ _ _ _ _ _ _ _ (by omega) hp (lv_sub hl [0, 1, 2, 3] rfl) hF
  · have hF := if_n c102 hF
    refine lv_iconst (v := 0) hx hb dL_law_1232 (by decide) ?_
    exact absurd (lw_01 hF) (by decide)
def fb_L_law_1234 (V : Nat → Nat) (xs : Nat → Int32) (L : Nat) (k18 : mSh → mMm → Nat → Nat → Nat → Nat → Int32 → Option (Int32 × mSh × mMm × Nat × Nat)) (S : mSh) (M : mMm) (n z : Nat) (x1 : Nat) (x2 : Nat) (x3 : Int32) : Option (Int32 × mSh × mMm × Nat × Nat) := gd ((S x1).1 = 1) (ob (f_X0_undo S M x1) fun ⟨v81, M82⟩ => gd ((S x2).1 = 6) (ob (f_X5_undo S M82 x2) fun ⟨v85, M86⟩ => (if v81 = v85 then (fb_L_law_1309 V xs L k18 S M86 n z x1 x2 x3) else some ((0 : Int32), S, M86, n, z))))
theorem mn_L_law_1234 {S' : mSh} {M' : mMm} {n' z' : Nat} (k18 : mSh → mMm → Nat → Nat → Nat → Nat → Int32 → Option (Int32 × mSh × mMm × Nat × Nat)) (hmk18 : ∀ {S : mSh} {M : mMm} {n z : Nat} {x1 : Nat} {x2 : Nat} {x3 : Int32}, k18 S M n z x1 x2 x3 = some (1, S', M', n', z') → n ≤ n' ∧ z ≤ z') : ∀ {S : mSh} {M : mMm} {n z : Nat} {x1 : Nat} {x2 : Nat} {x3 : Int32}, fb_L_law_1234 V xs L k18 S M n z x1 x2 x3 = some (1, S', M', n', z') → n ≤ n' ∧ z ≤ z' := by
  intro S M n z x1 x2 x3 hF
  unfold fb_L_law_1234 at hF
  obtain ⟨g79, hF⟩ := gd_s hF
  obtain ⟨⟨v81, M82⟩, e80, hF⟩ := ob_s hF
  obtain ⟨g83, hF⟩ := gd_s hF
  obtain ⟨⟨v85, M86⟩, e84, hF⟩ := ob_s hF
  rcases Decidable.em (v81 = v85) with c87 | c87
  · have hF := if_p c87 hF
    have h9 := (mn_L_law_1309 (V := V) (xs := xs) (L := L) k18 hmk18) hF
    exact ⟨by omega, by omega⟩
  · have hF := if_n c87 hF
    exact absurd (lw_01 hF) (by decide)
theorem b_L_law_1234 {S' : mSh} {M' : mMm} {n' z' : Nat} (hV : mV V n0 P) (hVs : mVs V n0 P) (hs : l.stackTraces = false) (hVx : mVx n0 P) (hn0 : s.heap.size = n0) (hXs : va_X b L xs s s.heap) (hbl : b < n0) (hbd : n' - n0 ≤ 601024 ∧ z' ≤ 7293034) (X : mCx D n0 P p m c cL_law 4 s #[Value.ref b] "WindingSquareLaw" meth (some .boolean)) (k18 : mSh → mMm → Nat → Nat → Nat → Nat → Int32 → Option (Int32 × mSh × mMm × Nat × Nat)) (hmk18 : ∀ {S : mSh} {M : mMm} {n z : Nat} {x1 : Nat} {x2 : Nat} {x3 : Int32}, k18 S M n z x1 x2 x3 = some (1, S', M', n', z') → n ≤ n' ∧ z ≤ z') (hk18 : ∀ (S : mSh) (M : mMm) (n z : Nat) (x1 : Nat) (x2 : Nat) (x3 : Int32) (H : Heap) (locs : List Loc) (ls : Array Slot), n0 ≤ n → mHp D n0 S M n s H locs → lv_has ls 4 [(0, .ref b), (1, .ref x1), (2, .ref x2), (3, .int x3)] → k18 S M n z x1 x2 x3 = some (1, S', M', n', z') → W p l e room_1 s m #[Value.ref b] below meth c H locs (n - n0) (z) (lw_Z below #[Value.ref b] s) (F0 m 18 ls [])) : ∀ (S : mSh) (M : mMm) (n z : Nat) (x1 : Nat) (x2 : Nat) (x3 : Int32) (H : Heap) (locs : List Loc) (ls : Array Slot), n0 ≤ n → mHp D n0 S M n s H locs → lv_has ls 4 [(0, .ref b), (1, .ref x1), (2, .ref x2), (3, .int x3)] → fb_L_law_1234 V xs L k18 S M n z x1 x2 x3 = some (1, S', M', n', z') → W p l e room_1 s m #[Value.ref b] below meth c H locs (n - n0) (z) (lw_Z below #[Value.ref b] s) (F0 m 1234 ls []) := by
  have hx := X.1.1
  have hb := X.1.2.1
  have hown := X.1.2.2.2.1
  have hts := X.1.2.2.2.2
  intro S M n z x1 x2 x3 H locs ls hn hp hl hF
  have hm0 := mn_L_law_1234 _ hmk18 hF
  unfold fb_L_law_1234 at hF
  refine lv_aload_n hx hb dL_law_1234 rfl (lv_at hl 1 rfl) ?_
  obtain ⟨g79, hF⟩ := gd_s hF
  obtain ⟨⟨v81, M82⟩, e80, hF⟩ := ob_s hF
  refine m_callV (As := []) (rest := []) X hp (w_X0_undo e80) q989 q990 q991 q132 q992 0 rfl ds_X0_undo ⟨Nat.le_of_ble_eq_true rfl, Nat.le_of_ble_eq_true rfl⟩ 1 (T := TX0) (N := 30) rfl (by decide) g79 hl.1 rfl (Nat.le_of_ble_eq_true rfl) dL_law_1235 ⟨by show _ + 0 ≤ 601024; omega, by show _ + 0 ≤ 7293034; omega⟩ (fun H locs hp => ?_)
  refine lv_aload_n hx hb dL_law_1238 rfl (lv_at hl 2 rfl) ?_
  obtain ⟨g83, hF⟩ := gd_s hF
  obtain ⟨⟨v85, M86⟩, e84, hF⟩ := ob_s hF
  refine m_callV (As := []) (rest := [.int v81]) X hp (w_X5_undo e84) q1859 q1860 q1861 q144 q1862 0 rfl ds_X5_undo ⟨Nat.le_of_ble_eq_true rfl, Nat.le_of_ble_eq_true rfl⟩ 6 (T := TX5) (N := 40) rfl (by decide) g83 hl.1 rfl (Nat.le_of_ble_eq_true rfl) dL_law_1239 ⟨by show _ + 0 ≤ 601024; omega, by show _ + 0 ≤ 7293034; omega⟩ (fun H locs hp => ?_)
  refine lv_icmp_eq (tgt := 1309) hx hb dL_law_1242 (by decide) (fun c87 => ?_) (fun c87 => ?_)
  · have hF := if_p c87 hF
    exact b_L_law_1309 hV hVs hs hVx hn0 hXs hbl hbd X k18 hmk18 hk18 _ _ _ _ _ _ _ _ _ _ (by omega) hp (lv_sub hl [0, 1, 2, 3] rfl) hF
  · have hF := if_n c87 hF
    refine lv_iconst (v := 0) hx hb dL_law_1245 (by decide) ?_
    exact absurd (lw_01 hF) (by decide)
def fb_L_law_1278 (V : Nat → Nat) (xs : Nat → Int32) (L : Nat) (k18 : mSh → mMm → Nat → Nat → Nat → Nat → Int32 → Option (Int32 × mSh × mMm × Nat × Nat)) (S : mSh) (M : mMm) (n z : Nat) (x1 : Nat) (x2 : Nat) (x3 : Int32) (y0 : Int32) (y1 : Nat) (y2 : Int32) : Option (Int32 × mSh × mMm × Nat × Nat) := gd ((S y1).1 = 6) (ob (f_X5_image S M y1 y0) fun ⟨v76, M77⟩ => (if y2 = v76 then (fb_L_law_1309 V xs L k18 S M77 n z x1 x2 x3) else some ((0 : Int32), S, M77, n, z)))
theorem mn_L_law_1278 {S' : mSh} {M' : mMm} {n' z' : Nat} (k18 : mSh → mMm → Nat → Nat → Nat → Nat → Int32 → Option (Int32 × mSh × mMm × Nat × Nat)) (hmk18 : ∀ {S : mSh} {M : mMm} {n z : Nat} {x1 : Nat} {x2 : Nat} {x3 : Int32}, k18 S M n z x1 x2 x3 = some (1, S', M', n', z') → n ≤ n' ∧ z ≤ z') : ∀ {S : mSh} {M : mMm} {n z : Nat} {x1 : Nat} {x2 : Nat} {x3 : Int32} {y0 : Int32} {y1 : Nat} {y2 : Int32}, fb_L_law_1278 V xs L k18 S M n z x1 x2 x3 y0 y1 y2 = some (1, S', M', n', z') → n ≤ n' ∧ z ≤ z' := by
  intro S M n z x1 x2 x3 y0 y1 y2 hF
  unfold fb_L_law_1278 at hF
  obtain ⟨g74, hF⟩ := gd_s hF
  obtain ⟨⟨v76, M77⟩, e75, hF⟩ := ob_s hF
  rcases Decidable.em (y2 = v76) with c78 | c78
  · have hF := if_p c78 hF
    have h9 := (mn_L_law_1309 (V := V) (xs := xs) (L := L) k18 hmk18) hF
    exact ⟨by omega, by omega⟩
  · have hF := if_n c78 hF
    exact absurd (lw_01 hF) (by decide)
theorem b_L_law_1278 {S' : mSh} {M' : mMm} {n' z' : Nat} (hV : mV V n0 P) (hVs : mVs V n0 P) (hs : l.stackTraces = false) (hVx : mVx n0 P) (hn0 : s.heap.size = n0) (hXs : va_X b L xs s s.heap) (hbl : b < n0) (hbd : n' - n0 ≤ 601024 ∧ z' ≤ 7293034) (X : mCx D n0 P p m c cL_law 4 s #[Value.ref b] "WindingSquareLaw" meth (some .boolean)) (k18 : mSh → mMm → Nat → Nat → Nat → Nat → Int32 → Option (Int32 × mSh × mMm × Nat × Nat)) (hmk18 : ∀ {S : mSh} {M : mMm} {n z : Nat} {x1 : Nat} {x2 : Nat} {x3 : Int32}, k18 S M n z x1 x2 x3 = some (1, S', M', n', z') → n ≤ n' ∧ z ≤ z') (hk18 : ∀ (S : mSh) (M : mMm) (n z : Nat) (x1 : Nat) (x2 : Nat) (x3 : Int32) (H : Heap) (locs : List Loc) (ls : Array Slot), n0 ≤ n → mHp D n0 S M n s H locs → lv_has ls 4 [(0, .ref b), (1, .ref x1), (2, .ref x2), (3, .int x3)] → k18 S M n z x1 x2 x3 = some (1, S', M', n', z') → W p l e room_1 s m #[Value.ref b] below meth c H locs (n - n0) (z) (lw_Z below #[Value.ref b] s) (F0 m 18 ls [])) : ∀ (S : mSh) (M : mMm) (n z : Nat) (x1 : Nat) (x2 : Nat) (x3 : Int32) (y0 : Int32) (y1 : Nat) (y2 : Int32) (H : Heap) (locs : List Loc) (ls : Array Slot), n0 ≤ n → mHp D n0 S M n s H locs → lv_has ls 4 [(0, .ref b), (1, .ref x1), (2, .ref x2), (3, .int x3)] → fb_L_law_1278 V xs L k18 S M n z x1 x2 x3 y0 y1 y2 = some (1, S', M', n', z') → W p l e room_1 s m #[Value.ref b] below meth c H locs (n - n0) (z) (lw_Z below #[Value.ref b] s) (F0 m 1278 ls [.int y0, .ref y1, .int y2]) := by
  have hx := X.1.1
  have hb := X.1.2.1
  have hown := X.1.2.2.2.1
  have hts := X.1.2.2.2.2
  intro S M n z x1 x2 x3 y0 y1 y2 H locs ls hn hp hl hF
  have hm0 := mn_L_law_1278 _ hmk18 hF
  unfold fb_L_law_1278 at hF
  obtain ⟨g74, hF⟩ := gd_s hF
  obtain ⟨⟨v76, M77⟩, e75, hF⟩ := ob_s hF
  refine m_callV (As := [.int y0]) (rest := [.int y2]) X hp (w_X5_image e75) q1863 q1864 q1865 q144 q1866 1 rfl ds_X5_image ⟨Nat.le_of_ble_eq_true rfl, Nat.le_of_ble_eq_true rfl⟩ 6 (T := TX5) (N := 40) rfl (by decide) g74 hl.1 rfl (Nat.le_of_ble_eq_true rfl) dL_law_1278 ⟨by show _ + 0 ≤ 601024; omega, by show _ + 0 ≤ 7293034; omega⟩ (fun H locs hp => ?_)
  refine lv_icmp_eq (tgt := 1309) hx hb dL_law_1281 (by decide) (fun c78 => ?_) (fun c78 => ?_)
  · have hF := if_p c78 hF
    exact b_L_law_1309 hV hVs hs hVx hn0 hXs hbl hbd X k18 hmk18 hk18 _ _ _ _ _ _ _ _ _ _ (by omega) hp (lv_sub hl [0, 1, 2, 3] rfl) hF
  · have hF := if_n c78 hF
    refine lv_iconst (v := 0) hx hb dL_law_1284 (by decide) ?_
    exact absurd (lw_01 hF) (by decide)
def fb_L_law_1261 (V : Nat → Nat) (xs : Nat → Int32) (L : Nat) (k18 : mSh → mMm → Nat → Nat → Nat → Nat → Int32 → Option (Int32 × mSh × mMm × Nat × Nat)) (S : mSh) (M : mMm) (n z : Nat) (x1 : Nat) (x2 : Nat) (x3 : Int32) (y0 : Int32) (y1 : Nat) : Option (Int32 × mSh × mMm × Nat × Nat) := gd ((S y1).1 = 1) (ob (f_X0_image S M y1 y0) fun ⟨v70, M71⟩ => gd (¬ ((x3 + (1 : Int32)) < 0 ∨ L ≤ (x3 + (1 : Int32)).toNatClampNeg)) ((if (xs (x3 + (1 : Int32)).toNatClampNeg) = 0 then (fb_L_law_1278 V xs L k18 S M71 n z x1 x2 x3 (0 : Int32) x2 v70) else (fb_L_law_1278 V xs L k18 S M71 n z x1 x2 x3 (1 : Int32) x2 v70))))
theorem mn_L_law_1261 {S' : mSh} {M' : mMm} {n' z' : Nat} (k18 : mSh → mMm → Nat → Nat → Nat → Nat → Int32 → Option (Int32 × mSh × mMm × Nat × Nat)) (hmk18 : ∀ {S : mSh} {M : mMm} {n z : Nat} {x1 : Nat} {x2 : Nat} {x3 : Int32}, k18 S M n z x1 x2 x3 = some (1, S', M', n', z') → n ≤ n' ∧ z ≤ z') : ∀ {S : mSh} {M : mMm} {n z : Nat} {x1 : Nat} {x2 : Nat} {x3 : Int32} {y0 : Int32} {y1 : Nat}, fb_L_law_1261 V xs L k18 S M n z x1 x2 x3 y0 y1 = some (1, S', M', n', z') → n ≤ n' ∧ z ≤ z' := by
  intro S M n z x1 x2 x3 y0 y1 hF
  unfold fb_L_law_1261 at hF
  obtain ⟨g68, hF⟩ := gd_s hF
  obtain ⟨⟨v70, M71⟩, e69, hF⟩ := ob_s hF
  obtain ⟨g72, hF⟩ := gd_s hF
  rcases Decidable.em ((xs (x3 + (1 : Int32)).toNatClampNeg) = 0) with c73 | c73
  · have hF := if_p c73 hF
    have h9 := (mn_L_law_1278 (V := V) (xs := xs) (L := L) k18 hmk18) hF
    exact ⟨by omega, by omega⟩
  · have hF := if_n c73 hF
    have h9 := (mn_L_law_1278 (V := V) (xs := xs) (L := L) k18 hmk18) hF
    exact ⟨by omega, by omega⟩
theorem b_L_law_1261 {S' : mSh} {M' : mMm} {n' z' : Nat} (hV : mV V n0 P) (hVs : mVs V n0 P) (hs : l.stackTraces = false) (hVx : mVx n0 P) (hn0 : s.heap.size = n0) (hXs : va_X b L xs s s.heap) (hbl : b < n0) (hbd : n' - n0 ≤ 601024 ∧ z' ≤ 7293034) (X : mCx D n0 P p m c cL_law 4 s #[Value.ref b] "WindingSquareLaw" meth (some .boolean)) (k18 : mSh → mMm → Nat → Nat → Nat → Nat → Int32 → Option (Int32 × mSh × mMm × Nat × Nat)) (hmk18 : ∀ {S : mSh} {M : mMm} {n z : Nat} {x1 : Nat} {x2 : Nat} {x3 : Int32}, k18 S M n z x1 x2 x3 = some (1, S', M', n', z') → n ≤ n' ∧ z ≤ z') (hk18 : ∀ (S : mSh) (M : mMm) (n z : Nat) (x1 : Nat) (x2 : Nat) (x3 : Int32) (H : Heap) (locs : List Loc) (ls : Array Slot), n0 ≤ n → mHp D n0 S M n s H locs → lv_has ls 4 [(0, .ref b), (1, .ref x1), (2, .ref x2), (3, .int x3)] → k18 S M n z x1 x2 x3 = some (1, S', M', n', z') → W p l e room_1 s m #[Value.ref b] below meth c H locs (n - n0) (z) (lw_Z below #[Value.ref b] s) (F0 m 18 ls [])) : ∀ (S : mSh) (M : mMm) (n z : Nat) (x1 : Nat) (x2 : Nat) (x3 : Int32) (y0 : Int32) (y1 : Nat) (H : Heap) (locs : List Loc) (ls : Array Slot), n0 ≤ n → mHp D n0 S M n s H locs → lv_has ls 4 [(0, .ref b), (1, .ref x1), (2, .ref x2), (3, .int x3)] → fb_L_law_1261 V xs L k18 S M n z x1 x2 x3 y0 y1 = some (1, S', M', n', z') → W p l e room_1 s m #[Value.ref b] below meth c H locs (n - n0) (z) (lw_Z below #[Value.ref b] s) (F0 m 1261 ls [.int y0, .ref y1]) := by
  have hx := X.1.1
  have hb := X.1.2.1
  have hown := X.1.2.2.2.1
  have hts := X.1.2.2.2.2
  intro S M n z x1 x2 x3 y0 y1 H locs ls hn hp hl hF
  have hm0 := mn_L_law_1261 _ hmk18 hF
  unfold fb_L_law_1261 at hF
  obtain ⟨g68, hF⟩ := gd_s hF
  obtain ⟨⟨v70, M71⟩, e69, hF⟩ := ob_s hF
  refine m_callV (As := [.int y0]) (rest := []) X hp (w_X0_image e69) q1436 q1437 q1438 q132 q1439 1 rfl ds_X0_image ⟨Nat.le_of_ble_eq_true rfl, Nat.le_of_ble_eq_true rfl⟩ 1 (T := TX0) (N := 30) rfl (by decide) g68 hl.1 rfl (Nat.le_of_ble_eq_true rfl) dL_law_1261 ⟨by show _ + 0 ≤ 601024; omega, by show _ + 0 ≤ 7293034; omega⟩ (fun H locs hp => ?_)
  refine lv_aload_n hx hb dL_law_1264 rfl (lv_at hl 2 rfl) ?_
  refine lv_aload_n hx hb dL_law_1265 rfl (lv_at hl 0 rfl) ?_
  refine lv_iload_n hx hb dL_law_1266 rfl (lv_at hl 3 rfl) ?_
  refine lv_iconst (v := 1) hx hb dL_law_1267 (by decide) ?_
  refine lv_iadd hx hb dL_law_1268 ?_
  obtain ⟨g72, hF⟩ := gd_s hF
  refine va_sld hx hb hXs (by rw [hn0]; exact hbl) (fun h => Nat.not_le.mpr hbl h) hp.2 g72 dL_law_1269 ?_
  refine lv_if_eq (tgt := 1277) hx hb dL_law_1270 (by decide) (fun c73 => ?_) (fun c73 => ?_)
  · have hF := if_p c73 hF
    refine lv_iconst (v := 0) hx hb dL_law_1277 (by decide) ?_
    exact b_L_law_1278 hV hVs hs hVx hn0 hXs hbl hbd X k18 hmk18 hk18 _ _ _ _ _ _ _ _ _ _ _ _ _ (by omega) hp (lv_sub hl [0, 1, 2, 3] rfl) hF
  · have hF := if_n c73 hF
    refine lv_iconst (v := 1) hx hb dL_law_1273 (by decide) ?_
    refine lv_goto (tgt := 1278) hx hb dL_law_1274 (by decide) ?_
    exact b_L_law_1278 hV hVs hs hVx hn0 hXs hbl hbd X k18 hmk18 hk18 _ _ _ _ _ _ _ _ _ _ _ _ _ (by omega) hp (lv_sub hl [0, 1, 2, 3] rfl) hF
def fb_L_law_1247 (V : Nat → Nat) (xs : Nat → Int32) (L : Nat) (k18 : mSh → mMm → Nat → Nat → Nat → Nat → Int32 → Option (Int32 × mSh × mMm × Nat × Nat)) (S : mSh) (M : mMm) (n z : Nat) (x1 : Nat) (x2 : Nat) (x3 : Int32) : Option (Int32 × mSh × mMm × Nat × Nat) := gd (¬ ((x3 + (1 : Int32)) < 0 ∨ L ≤ (x3 + (1 : Int32)).toNatClampNeg)) ((if (xs (x3 + (1 : Int32)).toNatClampNeg) = 0 then (fb_L_law_1261 V xs L k18 S M n z x1 x2 x3 (0 : Int32) x1) else (fb_L_law_1261 V xs L k18 S M n z x1 x2 x3 (1 : Int32) x1)))
theorem mn_L_law_1247 {S' : mSh} {M' : mMm} {n' z' : Nat} (k18 : mSh → mMm → Nat → Nat → Nat → Nat → Int32 → Option (Int32 × mSh × mMm × Nat × Nat)) (hmk18 : ∀ {S : mSh} {M : mMm} {n z : Nat} {x1 : Nat} {x2 : Nat} {x3 : Int32}, k18 S M n z x1 x2 x3 = some (1, S', M', n', z') → n ≤ n' ∧ z ≤ z') : ∀ {S : mSh} {M : mMm} {n z : Nat} {x1 : Nat} {x2 : Nat} {x3 : Int32}, fb_L_law_1247 V xs L k18 S M n z x1 x2 x3 = some (1, S', M', n', z') → n ≤ n' ∧ z ≤ z' := by
  intro S M n z x1 x2 x3 hF
  unfold fb_L_law_1247 at hF
  obtain ⟨g66, hF⟩ := gd_s hF
  rcases Decidable.em ((xs (x3 + (1 : Int32)).toNatClampNeg) = 0) with c67 | c67
  · have hF := if_p c67 hF
    have h9 := (mn_L_law_1261 (V := V) (xs := xs) (L := L) k18 hmk18) hF
    exact ⟨by omega, by omega⟩
  · have hF := if_n c67 hF
    have h9 := (mn_L_law_1261 (V := V) (xs := xs) (L := L) k18 hmk18) hF
    exact ⟨by omega, by omega⟩
theorem b_L_law_1247 {S' : mSh} {M' : mMm} {n' z' : Nat} (hV : mV V n0 P) (hVs : mVs V n0 P) (hs : l.stackTraces = false) (hVx : mVx n0 P) (hn0 : s.heap.size = n0) (hXs : va_X b L xs s s.heap) (hbl : b < n0) (hbd : n' - n0 ≤ 601024 ∧ z' ≤ 7293034) (X : mCx D n0 P p m c cL_law 4 s #[Value.ref b] "WindingSquareLaw" meth (some .boolean)) (k18 : mSh → mMm → Nat → Nat → Nat → Nat → Int32 → Option (Int32 × mSh × mMm × Nat × Nat)) (hmk18 : ∀ {S : mSh} {M : mMm} {n z : Nat} {x1 : Nat} {x2 : Nat} {x3 : Int32}, k18 S M n z x1 x2 x3 = some (1, S', M', n', z') → n ≤ n' ∧ z ≤ z') (hk18 : ∀ (S : mSh) (M : mMm) (n z : Nat) (x1 : Nat) (x2 : Nat) (x3 : Int32) (H : Heap) (locs : List Loc) (ls : Array Slot), n0 ≤ n → mHp D n0 S M n s H locs → lv_has ls 4 [(0, .ref b), (1, .ref x1), (2, .ref x2), (3, .int x3)] → k18 S M n z x1 x2 x3 = some (1, S', M', n', z') → W p l e room_1 s m #[Value.ref b] below meth c H locs (n - n0) (z) (lw_Z below #[Value.ref b] s) (F0 m 18 ls [])) : ∀ (S : mSh) (M : mMm) (n z : Nat) (x1 : Nat) (x2 : Nat) (x3 : Int32) (H : Heap) (locs : List Loc) (ls : Array Slot), n0 ≤ n → mHp D n0 S M n s H locs → lv_has ls 4 [(0, .ref b), (1, .ref x1), (2, .ref x2), (3, .int x3)] → fb_L_law_1247 V xs L k18 S M n z x1 x2 x3 = some (1, S', M', n', z') → W p l e room_1 s m #[Value.ref b] below meth c H locs (n - n0) (z) (lw_Z below #[Value.ref b] s) (F0 m 1247 ls []) := by
  have hx := X.1.1
  have hb := X.1.2.1
  have hown := X.1.2.2.2.1
  have hts := X.1.2.2.2.2
  intro S M n z x1 x2 x3 H locs ls hn hp hl hF
  have hm0 := mn_L_law_1247 _ hmk18 hF
  unfold fb_L_law_1247 at hF
  refine lv_aload_n hx hb dL_law_1247 rfl (lv_at hl 1 rfl) ?_
  refine lv_aload_n hx hb dL_law_1248 rfl (lv_at hl 0 rfl) ?_
  refine lv_iload_n hx hb dL_law_1249 rfl (lv_at hl 3 rfl) ?_
  refine lv_iconst (v := 1) hx hb dL_law_1250 (by decide) ?_
  refine lv_iadd hx hb dL_law_1251 ?_
  obtain ⟨g66, hF⟩ := gd_s hF
  refine va_sld hx hb hXs (by rw [hn0]; exact hbl) (fun h => Nat.not_le.mpr hbl h) hp.2 g66 dL_law_1252 ?_
  refine lv_if_eq (tgt := 1260) hx hb dL_law_1253 (by decide) (fun c67 => ?_) (fun c67 => ?_)
  · have hF := if_p c67 hF
    refine lv_iconst (v := 0) hx hb dL_law_1260 (by decide) ?_
    exact b_L_law_1261 hV hVs hs hVx hn0 hXs hbl hbd X k18 hmk18 hk18 _ _ _ _ _ _ _ _ _ _ _ _ (by omega) hp (lv_sub hl [0, 1, 2, 3] rfl) hF
  · have hF := if_n c67 hF
    refine lv_iconst (v := 1) hx hb dL_law_1256 (by decide) ?_
    refine lv_goto (tgt := 1261) hx hb dL_law_1257 (by decide) ?_
    exact b_L_law_1261 hV hVs hs hVx hn0 hXs hbl hbd X k18 hmk18 hk18 _ _ _ _ _ _ _ _ _ _ _ _ (by omega) hp (lv_sub hl [0, 1, 2, 3] rfl) hF
def fb_L_law_1286 (V : Nat → Nat) (xs : Nat → Int32) (L : Nat) (k18 : mSh → mMm → Nat → Nat → Nat → Nat → Int32 → Option (Int32 × mSh × mMm × Nat × Nat)) (S : mSh) (M : mMm) (n z : Nat) (x1 : Nat) (x2 : Nat) (x3 : Int32) : Option (Int32 × mSh × mMm × Nat × Nat) := gd (¬ ((x3 + (1 : Int32)) < 0 ∨ L ≤ (x3 + (1 : Int32)).toNatClampNeg)) (gd ((S x1).1 = 1) (ob (f_X0_look S M x1 (xs (x3 + (1 : Int32)).toNatClampNeg)) fun v59 => gd (¬ ((x3 + (1 : Int32)) < 0 ∨ L ≤ (x3 + (1 : Int32)).toNatClampNeg)) (gd ((S x2).1 = 6) (ob (f_X5_look S M x2 (xs (x3 + (1 : Int32)).toNatClampNeg)) fun ⟨v63, M64⟩ => (if v59 = v63 then (fb_L_law_1309 V xs L k18 S M64 n z x1 x2 x3) else some ((0 : Int32), S, M64, n, z))))))
theorem mn_L_law_1286 {S' : mSh} {M' : mMm} {n' z' : Nat} (k18 : mSh → mMm → Nat → Nat → Nat → Nat → Int32 → Option (Int32 × mSh × mMm × Nat × Nat)) (hmk18 : ∀ {S : mSh} {M : mMm} {n z : Nat} {x1 : Nat} {x2 : Nat} {x3 : Int32}, k18 S M n z x1 x2 x3 = some (1, S', M', n', z') → n ≤ n' ∧ z ≤ z') : ∀ {S : mSh} {M : mMm} {n z : Nat} {x1 : Nat} {x2 : Nat} {x3 : Int32}, fb_L_law_1286 V xs L k18 S M n z x1 x2 x3 = some (1, S', M', n', z') → n ≤ n' ∧ z ≤ z' := by
  intro S M n z x1 x2 x3 hF
  unfold fb_L_law_1286 at hF
  obtain ⟨g56, hF⟩ := gd_s hF
  obtain ⟨g57, hF⟩ := gd_s hF
  obtain ⟨v59, e58, hF⟩ := ob_s hF
  obtain ⟨g60, hF⟩ := gd_s hF
  obtain ⟨g61, hF⟩ := gd_s hF
  obtain ⟨⟨v63, M64⟩, e62, hF⟩ := ob_s hF
  rcases Decidable.em (v59 = v63) with c65 | c65
  · have hF := if_p c65 hF
    have h9 := (mn_L_law_1309 (V := V) (xs := xs) (L := L) k18 hmk18) hF
    exact ⟨by omega, by omega⟩
  · have hF := if_n c65 hF
    exact absurd (lw_01 hF) (by decide)
theorem b_L_law_1286 {S' : mSh} {M' : mMm} {n' z' : Nat} (hV : mV V n0 P) (hVs : mVs V n0 P) (hs : l.stackTraces = false) (hVx : mVx n0 P) (hn0 : s.heap.size = n0) (hXs : va_X b L xs s s.heap) (hbl : b < n0) (hbd : n' - n0 ≤ 601024 ∧ z' ≤ 7293034) (X : mCx D n0 P p m c cL_law 4 s #[Value.ref b] "WindingSquareLaw" meth (some .boolean)) (k18 : mSh → mMm → Nat → Nat → Nat → Nat → Int32 → Option (Int32 × mSh × mMm × Nat × Nat)) (hmk18 : ∀ {S : mSh} {M : mMm} {n z : Nat} {x1 : Nat} {x2 : Nat} {x3 : Int32}, k18 S M n z x1 x2 x3 = some (1, S', M', n', z') → n ≤ n' ∧ z ≤ z') (hk18 : ∀ (S : mSh) (M : mMm) (n z : Nat) (x1 : Nat) (x2 : Nat) (x3 : Int32) (H : Heap) (locs : List Loc) (ls : Array Slot), n0 ≤ n → mHp D n0 S M n s H locs → lv_has ls 4 [(0, .ref b), (1, .ref x1), (2, .ref x2), (3, .int x3)] → k18 S M n z x1 x2 x3 = some (1, S', M', n', z') → W p l e room_1 s m #[Value.ref b] below meth c H locs (n - n0) (z) (lw_Z below #[Value.ref b] s) (F0 m 18 ls [])) : ∀ (S : mSh) (M : mMm) (n z : Nat) (x1 : Nat) (x2 : Nat) (x3 : Int32) (H : Heap) (locs : List Loc) (ls : Array Slot), n0 ≤ n → mHp D n0 S M n s H locs → lv_has ls 4 [(0, .ref b), (1, .ref x1), (2, .ref x2), (3, .int x3)] → fb_L_law_1286 V xs L k18 S M n z x1 x2 x3 = some (1, S', M', n', z') → W p l e room_1 s m #[Value.ref b] below meth c H locs (n - n0) (z) (lw_Z below #[Value.ref b] s) (F0 m 1286 ls []) := by
  have hx := X.1.1
  have hb := X.1.2.1
  have hown := X.1.2.2.2.1
  have hts := X.1.2.2.2.2
  intro S M n z x1 x2 x3 H locs ls hn hp hl hF
  have hm0 := mn_L_law_1286 _ hmk18 hF
  unfold fb_L_law_1286 at hF
  refine lv_aload_n hx hb dL_law_1286 rfl (lv_at hl 1 rfl) ?_
  refine lv_aload_n hx hb dL_law_1287 rfl (lv_at hl 0 rfl) ?_
  refine lv_iload_n hx hb dL_law_1288 rfl (lv_at hl 3 rfl) ?_
  refine lv_iconst (v := 1) hx hb dL_law_1289 (by decide) ?_
  refine lv_iadd hx hb dL_law_1290 ?_
  obtain ⟨g56, hF⟩ := gd_s hF
  refine va_sld hx hb hXs (by rw [hn0]; exact hbl) (fun h => Nat.not_le.mpr hbl h) hp.2 g56 dL_law_1291 ?_
  obtain ⟨g57, hF⟩ := gd_s hF
  obtain ⟨v59, e58, hF⟩ := ob_s hF
  refine m_callV (As := [.int (xs (x3 + (1 : Int32)).toNatClampNeg)]) (rest := []) X hp (w_X0_look e58) q1449 q1450 q1451 q132 q1452 1 rfl ds_X0_look ⟨Nat.le_of_ble_eq_true rfl, Nat.le_of_ble_eq_true rfl⟩ 1 (T := TX0) (N := 30) rfl (by decide) g57 hl.1 rfl (Nat.le_of_ble_eq_true rfl) dL_law_1292 ⟨by show _ + 0 ≤ 601024; omega, by show _ + 0 ≤ 7293034; omega⟩ (fun H locs hp => ?_)
  refine lv_aload_n hx hb dL_law_1295 rfl (lv_at hl 2 rfl) ?_
  refine lv_aload_n hx hb dL_law_1296 rfl (lv_at hl 0 rfl) ?_
  refine lv_iload_n hx hb dL_law_1297 rfl (lv_at hl 3 rfl) ?_
  refine lv_iconst (v := 1) hx hb dL_law_1298 (by decide) ?_
  refine lv_iadd hx hb dL_law_1299 ?_
  obtain ⟨g60, hF⟩ := gd_s hF
  refine va_sld hx hb hXs (by rw [hn0]; exact hbl) (fun h => Nat.not_le.mpr hbl h) hp.2 g60 dL_law_1300 ?_
  obtain ⟨g61, hF⟩ := gd_s hF
  obtain ⟨⟨v63, M64⟩, e62, hF⟩ := ob_s hF
  refine m_callV (As := [.int (xs (x3 + (1 : Int32)).toNatClampNeg)]) (rest := [.int v59]) X hp (w_X5_look e62) q1883 q1884 q1885 q144 q1886 1 rfl ds_X5_look ⟨Nat.le_of_ble_eq_true rfl, Nat.le_of_ble_eq_true rfl⟩ 6 (T := TX5) (N := 40) rfl (by decide) g61 hl.1 rfl (Nat.le_of_ble_eq_true rfl) dL_law_1301 ⟨by show _ + 0 ≤ 601024; omega, by show _ + 0 ≤ 7293034; omega⟩ (fun H locs hp => ?_)
  refine lv_icmp_eq (tgt := 1309) hx hb dL_law_1304 (by decide) (fun c65 => ?_) (fun c65 => ?_)
  · have hF := if_p c65 hF
    exact b_L_law_1309 hV hVs hs hVx hn0 hXs hbl hbd X k18 hmk18 hk18 _ _ _ _ _ _ _ _ _ _ (by omega) hp (lv_sub hl [0, 1, 2, 3] rfl) hF
  · have hF := if_n c65 hF
    refine lv_iconst (v := 0) hx hb dL_law_1307 (by decide) ?_
    exact absurd (lw_01 hF) (by decide)
def fb_L_law_18 (V : Nat → Nat) (xs : Nat → Int32) (L : Nat) : Nat → mSh → mMm → Nat → Nat → Nat → Nat → Int32 → Option (Int32 × mSh × mMm × Nat × Nat)
  | 0, _, _, _, _, _, _, _ => none
  | t + 1, S, M, n, z, x1, x2, x3 => (if ((Int32.ofNat L) - (6 : Int32)) < x3 then some ((1 : Int32), S, M, n, z) else gd (¬ (x3 < 0 ∨ L ≤ x3.toNatClampNeg)) (nm (((xs x3.toNatClampNeg) &&& (63 : Int32))) fun v17 => (if v17 = (0 : Int32) then (fb_L_law_188 V xs L (fb_L_law_18 V xs L t) S M n z x1 x2 x3) else (if v17 = (1 : Int32) then (fb_L_law_211 V xs L (fb_L_law_18 V xs L t) S M n z x1 x2 x3) else (if v17 = (2 : Int32) then (fb_L_law_234 V xs L (fb_L_law_18 V xs L t) S M n z x1 x2 x3) else (if v17 = (3 : Int32) then (fb_L_law_277 V xs L (fb_L_law_18 V xs L t) S M n z x1 x2 x3) else (if v17 = (4 : Int32) then (fb_L_law_310 V xs L (fb_L_law_18 V xs L t) S M n z x1 x2 x3) else (if v17 = (5 : Int32) then (fb_L_law_353 V xs L (fb_L_law_18 V xs L t) S M n z x1 x2 x3) else (if v17 = (6 : Int32) then (fb_L_law_376 V xs L (fb_L_law_18 V xs L t) S M n z x1 x2 x3) else (if v17 = (7 : Int32) then (fb_L_law_439 V xs L (fb_L_law_18 V xs L t) S M n z x1 x2 x3) else (if v17 = (8 : Int32) then (fb_L_law_462 V xs L (fb_L_law_18 V xs L t) S M n z x1 x2 x3) else (if v17 = (9 : Int32) then (fb_L_law_485 V xs L (fb_L_law_18 V xs L t) S M n z x1 x2 x3) else (if v17 = (10 : Int32) then (fb_L_law_508 V xs L (fb_L_law_18 V xs L t) S M n z x1 x2 x3) else (if v17 = (11 : Int32) then (fb_L_law_541 V xs L (fb_L_law_18 V xs L t) S M n z x1 x2 x3) else (if v17 = (12 : Int32) then (fb_L_law_584 V xs L (fb_L_law_18 V xs L t) S M n z x1 x2 x3) else (if v17 = (13 : Int32) then (fb_L_law_617 V xs L (fb_L_law_18 V xs L t) S M n z x1 x2 x3) else (if v17 = (14 : Int32) then (fb_L_law_650 V xs L (fb_L_law_18 V xs L t) S M n z x1 x2 x3) else (if v17 = (15 : Int32) then (fb_L_law_673 V xs L (fb_L_law_18 V xs L t) S M n z x1 x2 x3) else (if v17 = (16 : Int32) then (fb_L_law_726 V xs L (fb_L_law_18 V xs L t) S M n z x1 x2 x3) else (if v17 = (17 : Int32) then (fb_L_law_779 V xs L (fb_L_law_18 V xs L t) S M n z x1 x2 x3) else (if v17 = (18 : Int32) then (fb_L_law_812 V xs L (fb_L_law_18 V xs L t) S M n z x1 x2 x3) else (if v17 = (19 : Int32) then (fb_L_law_845 V xs L (fb_L_law_18 V xs L t) S M n z x1 x2 x3) else (if v17 = (20 : Int32) then (fb_L_law_868 V xs L (fb_L_law_18 V xs L t) S M n z x1 x2 x3) else (if v17 = (21 : Int32) then (fb_L_law_891 V xs L (fb_L_law_18 V xs L t) S M n z x1 x2 x3) else (if v17 = (22 : Int32) then (fb_L_law_914 V xs L (fb_L_law_18 V xs L t) S M n z x1 x2 x3) else (if v17 = (23 : Int32) then (fb_L_law_957 V xs L (fb_L_law_18 V xs L t) S M n z x1 x2 x3) else (if v17 = (24 : Int32) then (fb_L_law_1000 V xs L (fb_L_law_18 V xs L t) S M n z x1 x2 x3) else (if v17 = (25 : Int32) then (fb_L_law_1033 V xs L (fb_L_law_18 V xs L t) S M n z x1 x2 x3) else (if v17 = (26 : Int32) then (fb_L_law_1066 V xs L (fb_L_law_18 V xs L t) S M n z x1 x2 x3) else (if v17 = (27 : Int32) then (fb_L_law_1089 V xs L (fb_L_law_18 V xs L t) S M n z x1 x2 x3) else (if v17 = (28 : Int32) then (fb_L_law_1122 V xs L (fb_L_law_18 V xs L t) S M n z x1 x2 x3) else (if v17 = (29 : Int32) then (fb_L_law_1135 V xs L (fb_L_law_18 V xs L t) S M n z x1 x2 x3) else (if v17 = (30 : Int32) then (fb_L_law_1168 V xs L (fb_L_law_18 V xs L t) S M n z x1 x2 x3) else (if v17 = (31 : Int32) then (fb_L_law_1191 V xs L (fb_L_law_18 V xs L t) S M n z x1 x2 x3) else (if v17 = (32 : Int32) then (fb_L_law_1234 V xs L (fb_L_law_18 V xs L t) S M n z x1 x2 x3) else (if v17 = (33 : Int32) then (fb_L_law_1247 V xs L (fb_L_law_18 V xs L t) S M n z x1 x2 x3) else (if v17 = (34 : Int32) then (fb_L_law_1286 V xs L (fb_L_law_18 V xs L t) S M n z x1 x2 x3) else (fb_L_law_1309 V xs L (fb_L_law_18 V xs L t) S M n z x1 x2 x3))))))))))))))))))))))))))))))))))))))
theorem mn_L_law_18 {S' : mSh} {M' : mMm} {n' z' : Nat} : ∀ {t : Nat} {S : mSh} {M : mMm} {n z : Nat} {x1 : Nat} {x2 : Nat} {x3 : Int32}, fb_L_law_18 V xs L t S M n z x1 x2 x3 = some (1, S', M', n', z') → n ≤ n' ∧ z ≤ z' := by
  intro t
  induction t with
  | zero =>
    intro S M n z x1 x2 x3 hF
    rw [fb_L_law_18] at hF
    cases hF
  | succ t ihm =>
    intro S M n z x1 x2 x3 hF
    rw [fb_L_law_18] at hF
    rcases Decidable.em (((Int32.ofNat L) - (6 : Int32)) < x3) with c15 | c15
    · have hF := if_p c15 hF
      cases hF
      exact ⟨Nat.le_refl _, Nat.le_refl _⟩
    · have hF := if_n c15 hF
      obtain ⟨g16, hF⟩ := gd_s hF
      obtain ⟨v17, ev18, hF⟩ := nm_ex hF
      by_cases c19 : v17 = (0 : Int32)
      · have hF := if_p c19 hF
        have h9 := (mn_L_law_188 (V := V) (xs := xs) (L := L) (fb_L_law_18 V xs L t) @ihm) hF
        exact ⟨by omega, by omega⟩
      · have hF := if_n c19 hF
        by_cases c20 : v17 = (1 : Int32)
        · have hF := if_p c20 hF
          have h9 := (mn_L_law_211 (V := V) (xs := xs) (L := L) (fb_L_law_18 V xs L t) @ihm) hF
          exact ⟨by omega, by omega⟩
        · have hF := if_n c20 hF
          by_cases c21 : v17 = (2 : Int32)
          · have hF := if_p c21 hF
            have h9 := (mn_L_law_234 (V := V) (xs := xs) (L := L) (fb_L_law_18 V xs L t) @ihm) hF
            exact ⟨by omega, by omega⟩
          · have hF := if_n c21 hF
            by_cases c22 : v17 = (3 : Int32)
            · have hF := if_p c22 hF
              have h9 := (mn_L_law_277 (V := V) (xs := xs) (L := L) (fb_L_law_18 V xs L t) @ihm) hF
              exact ⟨by omega, by omega⟩
            · have hF := if_n c22 hF
              by_cases c23 : v17 = (4 : Int32)
              · have hF := if_p c23 hF
                have h9 := (mn_L_law_310 (V := V) (xs := xs) (L := L) (fb_L_law_18 V xs L t) @ihm) hF
                exact ⟨by omega, by omega⟩
              · have hF := if_n c23 hF
                by_cases c24 : v17 = (5 : Int32)
                · have hF := if_p c24 hF
                  have h9 := (mn_L_law_353 (V := V) (xs := xs) (L := L) (fb_L_law_18 V xs L t) @ihm) hF
                  exact ⟨by omega, by omega⟩
                · have hF := if_n c24 hF
                  by_cases c25 : v17 = (6 : Int32)
                  · have hF := if_p c25 hF
                    have h9 := (mn_L_law_376 (V := V) (xs := xs) (L := L) (fb_L_law_18 V xs L t) @ihm) hF
                    exact ⟨by omega, by omega⟩
                  · have hF := if_n c25 hF
                    by_cases c26 : v17 = (7 : Int32)
                    · have hF := if_p c26 hF
                      have h9 := (mn_L_law_439 (V := V) (xs := xs) (L := L) (fb_L_law_18 V xs L t) @ihm) hF
                      exact ⟨by omega, by omega⟩
                    · have hF := if_n c26 hF
                      by_cases c27 : v17 = (8 : Int32)
                      · have hF := if_p c27 hF
                        have h9 := (mn_L_law_462 (V := V) (xs := xs) (L := L) (fb_L_law_18 V xs L t) @ihm) hF
                        exact ⟨by omega, by omega⟩
                      · have hF := if_n c27 hF
                        by_cases c28 : v17 = (9 : Int32)
                        · have hF := if_p c28 hF
                          have h9 := (mn_L_law_485 (V := V) (xs := xs) (L := L) (fb_L_law_18 V xs L t) @ihm) hF
                          exact ⟨by omega, by omega⟩
                        · have hF := if_n c28 hF
                          by_cases c29 : v17 = (10 : Int32)
                          · have hF := if_p c29 hF
                            have h9 := (mn_L_law_508 (V := V) (xs := xs) (L := L) (fb_L_law_18 V xs L t) @ihm) hF
                            exact ⟨by omega, by omega⟩
                          · have hF := if_n c29 hF
                            by_cases c30 : v17 = (11 : Int32)
                            · have hF := if_p c30 hF
                              have h9 := (mn_L_law_541 (V := V) (xs := xs) (L := L) (fb_L_law_18 V xs L t) @ihm) hF
                              exact ⟨by omega, by omega⟩
                            · have hF := if_n c30 hF
                              by_cases c31 : v17 = (12 : Int32)
                              · have hF := if_p c31 hF
                                have h9 := (mn_L_law_584 (V := V) (xs := xs) (L := L) (fb_L_law_18 V xs L t) @ihm) hF
                                exact ⟨by omega, by omega⟩
                              · have hF := if_n c31 hF
                                by_cases c32 : v17 = (13 : Int32)
                                · have hF := if_p c32 hF
                                  have h9 := (mn_L_law_617 (V := V) (xs := xs) (L := L) (fb_L_law_18 V xs L t) @ihm) hF
                                  exact ⟨by omega, by omega⟩
                                · have hF := if_n c32 hF
                                  by_cases c33 : v17 = (14 : Int32)
                                  · have hF := if_p c33 hF
                                    have h9 := (mn_L_law_650 (V := V) (xs := xs) (L := L) (fb_L_law_18 V xs L t) @ihm) hF
                                    exact ⟨by omega, by omega⟩
                                  · have hF := if_n c33 hF
                                    by_cases c34 : v17 = (15 : Int32)
                                    · have hF := if_p c34 hF
                                      have h9 := (mn_L_law_673 (V := V) (xs := xs) (L := L) (fb_L_law_18 V xs L t) @ihm) hF
                                      exact ⟨by omega, by omega⟩
                                    · have hF := if_n c34 hF
                                      by_cases c35 : v17 = (16 : Int32)
                                      · have hF := if_p c35 hF
                                        have h9 := (mn_L_law_726 (V := V) (xs := xs) (L := L) (fb_L_law_18 V xs L t) @ihm) hF
                                        exact ⟨by omega, by omega⟩
                                      · have hF := if_n c35 hF
                                        by_cases c36 : v17 = (17 : Int32)
                                        · have hF := if_p c36 hF
                                          have h9 := (mn_L_law_779 (V := V) (xs := xs) (L := L) (fb_L_law_18 V xs L t) @ihm) hF
                                          exact ⟨by omega, by omega⟩
                                        · have hF := if_n c36 hF
                                          by_cases c37 : v17 = (18 : Int32)
                                          · have hF := if_p c37 hF
                                            have h9 := (mn_L_law_812 (V := V) (xs := xs) (L := L) (fb_L_law_18 V xs L t) @ihm) hF
                                            exact ⟨by omega, by omega⟩
                                          · have hF := if_n c37 hF
                                            by_cases c38 : v17 = (19 : Int32)
                                            · have hF := if_p c38 hF
                                              have h9 := (mn_L_law_845 (V := V) (xs := xs) (L := L) (fb_L_law_18 V xs L t) @ihm) hF
                                              exact ⟨by omega, by omega⟩
                                            · have hF := if_n c38 hF
                                              by_cases c39 : v17 = (20 : Int32)
                                              · have hF := if_p c39 hF
                                                have h9 := (mn_L_law_868 (V := V) (xs := xs) (L := L) (fb_L_law_18 V xs L t) @ihm) hF
                                                exact ⟨by omega, by omega⟩
                                              · have hF := if_n c39 hF
                                                by_cases c40 : v17 = (21 : Int32)
                                                · have hF := if_p c40 hF
                                                  have h9 := (mn_L_law_891 (V := V) (xs := xs) (L := L) (fb_L_law_18 V xs L t) @ihm) hF
                                                  exact ⟨by omega, by omega⟩
                                                · have hF := if_n c40 hF
                                                  by_cases c41 : v17 = (22 : Int32)
                                                  · have hF := if_p c41 hF
                                                    have h9 := (mn_L_law_914 (V := V) (xs := xs) (L := L) (fb_L_law_18 V xs L t) @ihm) hF
                                                    exact ⟨by omega, by omega⟩
                                                  · have hF := if_n c41 hF
                                                    by_cases c42 : v17 = (23 : Int32)
                                                    · have hF := if_p c42 hF
                                                      have h9 := (mn_L_law_957 (V := V) (xs := xs) (L := L) (fb_L_law_18 V xs L t) @ihm) hF
                                                      exact ⟨by omega, by omega⟩
                                                    · have hF := if_n c42 hF
                                                      by_cases c43 : v17 = (24 : Int32)
                                                      · have hF := if_p c43 hF
                                                        have h9 := (mn_L_law_1000 (V := V) (xs := xs) (L := L) (fb_L_law_18 V xs L t) @ihm) hF
                                                        exact ⟨by omega, by omega⟩
                                                      · have hF := if_n c43 hF
                                                        by_cases c44 : v17 = (25 : Int32)
                                                        · have hF := if_p c44 hF
                                                          have h9 := (mn_L_law_1033 (V := V) (xs := xs) (L := L) (fb_L_law_18 V xs L t) @ihm) hF
                                                          exact ⟨by omega, by omega⟩
                                                        · have hF := if_n c44 hF
                                                          by_cases c45 : v17 = (26 : Int32)
                                                          · have hF := if_p c45 hF
                                                            have h9 := (mn_L_law_1066 (V := V) (xs := xs) (L := L) (fb_L_law_18 V xs L t) @ihm) hF
                                                            exact ⟨by omega, by omega⟩
                                                          · have hF := if_n c45 hF
                                                            by_cases c46 : v17 = (27 : Int32)
                                                            · have hF := if_p c46 hF
                                                              have h9 := (mn_L_law_1089 (V := V) (xs := xs) (L := L) (fb_L_law_18 V xs L t) @ihm) hF
                                                              exact ⟨by omega, by omega⟩
                                                            · have hF := if_n c46 hF
                                                              by_cases c47 : v17 = (28 : Int32)
                                                              · have hF := if_p c47 hF
                                                                have h9 := (mn_L_law_1122 (V := V) (xs := xs) (L := L) (fb_L_law_18 V xs L t) @ihm) hF
                                                                exact ⟨by omega, by omega⟩
                                                              · have hF := if_n c47 hF
                                                                by_cases c48 : v17 = (29 : Int32)
                                                                · have hF := if_p c48 hF
                                                                  have h9 := (mn_L_law_1135 (V := V) (xs := xs) (L := L) (fb_L_law_18 V xs L t) @ihm) hF
                                                                  exact ⟨by omega, by omega⟩
                                                                · have hF := if_n c48 hF
                                                                  by_cases c49 : v17 = (30 : Int32)
                                                                  · have hF := if_p c49 hF
                                                                    have h9 := (mn_L_law_1168 (V := V) (xs := xs) (L := L) (fb_L_law_18 V xs L t) @ihm) hF
                                                                    exact ⟨by omega, by omega⟩
                                                                  · have hF := if_n c49 hF
                                                                    by_cases c50 : v17 = (31 : Int32)
                                                                    · have hF := if_p c50 hF
                                                                      have h9 := (mn_L_law_1191 (V := V) (xs := xs) (L := L) (fb_L_law_18 V xs L t) @ihm) hF
                                                                      exact ⟨by omega, by omega⟩
                                                                    · have hF := if_n c50 hF
                                                                      by_cases c51 : v17 = (32 : Int32)
                                                                      · have hF := if_p c51 hF
                                                                        have h9 := (mn_L_law_1234 (V := V) (xs := xs) (L := L) (fb_L_law_18 V xs L t) @ihm) hF
                                                                        exact ⟨by omega, by omega⟩
                                                                      · have hF := if_n c51 hF
                                                                        by_cases c52 : v17 = (33 : Int32)
                                                                        · have hF := if_p c52 hF
                                                                          have h9 := (mn_L_law_1247 (V := V) (xs := xs) (L := L) (fb_L_law_18 V xs L t) @ihm) hF
                                                                          exact ⟨by omega, by omega⟩
                                                                        · have hF := if_n c52 hF
                                                                          by_cases c53 : v17 = (34 : Int32)
                                                                          · have hF := if_p c53 hF
                                                                            have h9 := (mn_L_law_1286 (V := V) (xs := xs) (L := L) (fb_L_law_18 V xs L t) @ihm) hF
                                                                            exact ⟨by omega, by omega⟩
                                                                          · have hF := if_n c53 hF
                                                                            have h9 := (mn_L_law_1309 (V := V) (xs := xs) (L := L) (fb_L_law_18 V xs L t) @ihm) hF
                                                                            exact ⟨by omega, by omega⟩
theorem b_L_law_18 {S' : mSh} {M' : mMm} {n' z' : Nat} (hV : mV V n0 P) (hVs : mVs V n0 P) (hs : l.stackTraces = false) (hVx : mVx n0 P) (hn0 : s.heap.size = n0) (hXs : va_X b L xs s s.heap) (hbl : b < n0) (hbd : n' - n0 ≤ 601024 ∧ z' ≤ 7293034) (X : mCx D n0 P p m c cL_law 4 s #[Value.ref b] "WindingSquareLaw" meth (some .boolean)) : ∀ t : Nat, ∀ (S : mSh) (M : mMm) (n z : Nat) (x1 : Nat) (x2 : Nat) (x3 : Int32) (H : Heap) (locs : List Loc) (ls : Array Slot), n0 ≤ n → mHp D n0 S M n s H locs → lv_has ls 4 [(0, .ref b), (1, .ref x1), (2, .ref x2), (3, .int x3)] → fb_L_law_18 V xs L t S M n z x1 x2 x3 = some (1, S', M', n', z') → W p l e room_1 s m #[Value.ref b] below meth c H locs (n - n0) (z) (lw_Z below #[Value.ref b] s) (F0 m 18 ls []) := by
  have hx := X.1.1
  have hb := X.1.2.1
  have hown := X.1.2.2.2.1
  have hts := X.1.2.2.2.2
  intro t
  induction t with
  | zero =>
    intro S M n z x1 x2 x3 H locs ls hn hp hl hF
    rw [fb_L_law_18] at hF
    cases hF
  | succ t ih =>
    intro S M n z x1 x2 x3 H locs ls hn hp hl hF
    have ihm := @mn_L_law_18 V L xs S' M' n' z' t
    have hm0 := mn_L_law_18 hF
    rw [fb_L_law_18] at hF
    refine lv_iload_n hx hb dL_law_18 rfl (lv_at hl 3 rfl) ?_
    refine lv_aload_n hx hb dL_law_19 rfl (lv_at hl 0 rfl) ?_
    refine va_slen hx hb hXs (by rw [hn0]; exact hbl) (fun h => Nat.not_le.mpr hbl h) hp.2 dL_law_20 ?_
    refine lv_bipush (v := 6) hx hb dL_law_21 (by decide) ?_
    refine lv_isub hx hb dL_law_23 ?_
    refine lv_icmp_gt (tgt := 1315) hx hb dL_law_24 (by decide) (fun c15 => ?_) (fun c15 => ?_)
    · have hF := if_p c15 hF
      refine lv_iconst (v := 1) hx hb dL_law_1315 (by decide) ?_
      cases hF
      exact m_lret X hn0 hp hbd dL_law_1316
    · have hF := if_n c15 hF
      refine lv_aload_n hx hb dL_law_27 rfl (lv_at hl 0 rfl) ?_
      refine lv_iload_n hx hb dL_law_28 rfl (lv_at hl 3 rfl) ?_
      obtain ⟨g16, hF⟩ := gd_s hF
      refine va_sld hx hb hXs (by rw [hn0]; exact hbl) (fun h => Nat.not_le.mpr hbl h) hp.2 g16 dL_law_29 ?_
      refine lv_bipush (v := 63) hx hb dL_law_30 (by decide) ?_
      refine lv_iand hx hb dL_law_32 ?_
      refine lv_topi (fun v17 ev18 => ?_)
      have hF := nm_s hF ev18
      by_cases c19 : v17 = (0 : Int32)
      · have hF := if_p c19 hF
        refine lv_tableIn (x := v17) (tgt := 188) hx hb dL_law_33 (by rw [c19]; decide) (by rw [c19]; decide) (by rw [c19]; rfl) (by decide) ?_
        exact b_L_law_188 hV hVs hs hVx hn0 hXs hbl hbd X (fb_L_law_18 V xs L t) @ihm ih _ _ _ _ _ _ _ _ _ _ (by omega) hp (lv_sub hl [0, 1, 2, 3] rfl) hF
      · have hF := if_n c19 hF
        by_cases c20 : v17 = (1 : Int32)
        · have hF := if_p c20 hF
          refine lv_tableIn (x := v17) (tgt := 211) hx hb dL_law_33 (by rw [c20]; decide) (by rw [c20]; decide) (by rw [c20]; rfl) (by decide) ?_
          exact b_L_law_211 hV hVs hs hVx hn0 hXs hbl hbd X (fb_L_law_18 V xs L t) @ihm ih _ _ _ _ _ _ _ _ _ _ (by omega) hp (lv_sub hl [0, 1, 2, 3] rfl) hF
        · have hF := if_n c20 hF
          by_cases c21 : v17 = (2 : Int32)
          · have hF := if_p c21 hF
            refine lv_tableIn (x := v17) (tgt := 234) hx hb dL_law_33 (by rw [c21]; decide) (by rw [c21]; decide) (by rw [c21]; rfl) (by decide) ?_
            exact b_L_law_234 hV hVs hs hVx hn0 hXs hbl hbd X (fb_L_law_18 V xs L t) @ihm ih _ _ _ _ _ _ _ _ _ _ (by omega) hp (lv_sub hl [0, 1, 2, 3] rfl) hF
          · have hF := if_n c21 hF
            by_cases c22 : v17 = (3 : Int32)
            · have hF := if_p c22 hF
              refine lv_tableIn (x := v17) (tgt := 277) hx hb dL_law_33 (by rw [c22]; decide) (by rw [c22]; decide) (by rw [c22]; rfl) (by decide) ?_
              exact b_L_law_277 hV hVs hs hVx hn0 hXs hbl hbd X (fb_L_law_18 V xs L t) @ihm ih _ _ _ _ _ _ _ _ _ _ (by omega) hp (lv_sub hl [0, 1, 2, 3] rfl) hF
            · have hF := if_n c22 hF
              by_cases c23 : v17 = (4 : Int32)
              · have hF := if_p c23 hF
                refine lv_tableIn (x := v17) (tgt := 310) hx hb dL_law_33 (by rw [c23]; decide) (by rw [c23]; decide) (by rw [c23]; rfl) (by decide) ?_
                exact b_L_law_310 hV hVs hs hVx hn0 hXs hbl hbd X (fb_L_law_18 V xs L t) @ihm ih _ _ _ _ _ _ _ _ _ _ (by omega) hp (lv_sub hl [0, 1, 2, 3] rfl) hF
              · have hF := if_n c23 hF
                by_cases c24 : v17 = (5 : Int32)
                · have hF := if_p c24 hF
                  refine lv_tableIn (x := v17) (tgt := 353) hx hb dL_law_33 (by rw [c24]; decide) (by rw [c24]; decide) (by rw [c24]; rfl) (by decide) ?_
                  exact b_L_law_353 hV hVs hs hVx hn0 hXs hbl hbd X (fb_L_law_18 V xs L t) @ihm ih _ _ _ _ _ _ _ _ _ _ (by omega) hp (lv_sub hl [0, 1, 2, 3] rfl) hF
                · have hF := if_n c24 hF
                  by_cases c25 : v17 = (6 : Int32)
                  · have hF := if_p c25 hF
                    refine lv_tableIn (x := v17) (tgt := 376) hx hb dL_law_33 (by rw [c25]; decide) (by rw [c25]; decide) (by rw [c25]; rfl) (by decide) ?_
                    exact b_L_law_376 hV hVs hs hVx hn0 hXs hbl hbd X (fb_L_law_18 V xs L t) @ihm ih _ _ _ _ _ _ _ _ _ _ (by omega) hp (lv_sub hl [0, 1, 2, 3] rfl) hF
                  · have hF := if_n c25 hF
                    by_cases c26 : v17 = (7 : Int32)
                    · have hF := if_p c26 hF
                      refine lv_tableIn (x := v17) (tgt := 439) hx hb dL_law_33 (by rw [c26]; decide) (by rw [c26]; decide) (by rw [c26]; rfl) (by decide) ?_
                      exact b_L_law_439 hV hVs hs hVx hn0 hXs hbl hbd X (fb_L_law_18 V xs L t) @ihm ih _ _ _ _ _ _ _ _ _ _ (by omega) hp (lv_sub hl [0, 1, 2, 3] rfl) hF
                    · have hF := if_n c26 hF
                      by_cases c27 : v17 = (8 : Int32)
                      · have hF := if_p c27 hF
                        refine lv_tableIn (x := v17) (tgt := 462) hx hb dL_law_33 (by rw [c27]; decide) (by rw [c27]; decide) (by rw [c27]; rfl) (by decide) ?_
                        exact b_L_law_462 hV hVs hs hVx hn0 hXs hbl hbd X (fb_L_law_18 V xs L t) @ihm ih _ _ _ _ _ _ _ _ _ _ (by omega) hp (lv_sub hl [0, 1, 2, 3] rfl) hF
                      · have hF := if_n c27 hF
                        by_cases c28 : v17 = (9 : Int32)
                        · have hF := if_p c28 hF
                          refine lv_tableIn (x := v17) (tgt := 485) hx hb dL_law_33 (by rw [c28]; decide) (by rw [c28]; decide) (by rw [c28]; rfl) (by decide) ?_
                          exact b_L_law_485 hV hVs hs hVx hn0 hXs hbl hbd X (fb_L_law_18 V xs L t) @ihm ih _ _ _ _ _ _ _ _ _ _ (by omega) hp (lv_sub hl [0, 1, 2, 3] rfl) hF
                        · have hF := if_n c28 hF
                          by_cases c29 : v17 = (10 : Int32)
                          · have hF := if_p c29 hF
                            refine lv_tableIn (x := v17) (tgt := 508) hx hb dL_law_33 (by rw [c29]; decide) (by rw [c29]; decide) (by rw [c29]; rfl) (by decide) ?_
                            exact b_L_law_508 hV hVs hs hVx hn0 hXs hbl hbd X (fb_L_law_18 V xs L t) @ihm ih _ _ _ _ _ _ _ _ _ _ (by omega) hp (lv_sub hl [0, 1, 2, 3] rfl) hF
                          · have hF := if_n c29 hF
                            by_cases c30 : v17 = (11 : Int32)
                            · have hF := if_p c30 hF
                              refine lv_tableIn (x := v17) (tgt := 541) hx hb dL_law_33 (by rw [c30]; decide) (by rw [c30]; decide) (by rw [c30]; rfl) (by decide) ?_
                              exact b_L_law_541 hV hVs hs hVx hn0 hXs hbl hbd X (fb_L_law_18 V xs L t) @ihm ih _ _ _ _ _ _ _ _ _ _ (by omega) hp (lv_sub hl [0, 1, 2, 3] rfl) hF
                            · have hF := if_n c30 hF
                              by_cases c31 : v17 = (12 : Int32)
                              · have hF := if_p c31 hF
                                refine lv_tableIn (x := v17) (tgt := 584) hx hb dL_law_33 (by rw [c31]; decide) (by rw [c31]; decide) (by rw [c31]; rfl) (by decide) ?_
                                exact b_L_law_584 hV hVs hs hVx hn0 hXs hbl hbd X (fb_L_law_18 V xs L t) @ihm ih _ _ _ _ _ _ _ _ _ _ (by omega) hp (lv_sub hl [0, 1, 2, 3] rfl) hF
                              · have hF := if_n c31 hF
                                by_cases c32 : v17 = (13 : Int32)
                                · have hF := if_p c32 hF
                                  refine lv_tableIn (x := v17) (tgt := 617) hx hb dL_law_33 (by rw [c32]; decide) (by rw [c32]; decide) (by rw [c32]; rfl) (by decide) ?_
                                  exact b_L_law_617 hV hVs hs hVx hn0 hXs hbl hbd X (fb_L_law_18 V xs L t) @ihm ih _ _ _ _ _ _ _ _ _ _ (by omega) hp (lv_sub hl [0, 1, 2, 3] rfl) hF
                                · have hF := if_n c32 hF
                                  by_cases c33 : v17 = (14 : Int32)
                                  · have hF := if_p c33 hF
                                    refine lv_tableIn (x := v17) (tgt := 650) hx hb dL_law_33 (by rw [c33]; decide) (by rw [c33]; decide) (by rw [c33]; rfl) (by decide) ?_
                                    exact b_L_law_650 hV hVs hs hVx hn0 hXs hbl hbd X (fb_L_law_18 V xs L t) @ihm ih _ _ _ _ _ _ _ _ _ _ (by omega) hp (lv_sub hl [0, 1, 2, 3] rfl) hF
                                  · have hF := if_n c33 hF
                                    by_cases c34 : v17 = (15 : Int32)
                                    · have hF := if_p c34 hF
                                      refine lv_tableIn (x := v17) (tgt := 673) hx hb dL_law_33 (by rw [c34]; decide) (by rw [c34]; decide) (by rw [c34]; rfl) (by decide) ?_
                                      exact b_L_law_673 hV hVs hs hVx hn0 hXs hbl hbd X (fb_L_law_18 V xs L t) @ihm ih _ _ _ _ _ _ _ _ _ _ (by omega) hp (lv_sub hl [0, 1, 2, 3] rfl) hF
                                    · have hF := if_n c34 hF
                                      by_cases c35 : v17 = (16 : Int32)
                                      · have hF := if_p c35 hF
                                        refine lv_tableIn (x := v17) (tgt := 726) hx hb dL_law_33 (by rw [c35]; decide) (by rw [c35]; decide) (by rw [c35]; rfl) (by decide) ?_
                                        exact b_L_law_726 hV hVs hs hVx hn0 hXs hbl hbd X (fb_L_law_18 V xs L t) @ihm ih _ _ _ _ _ _ _ _ _ _ (by omega) hp (lv_sub hl [0, 1, 2, 3] rfl) hF
                                      · have hF := if_n c35 hF
                                        by_cases c36 : v17 = (17 : Int32)
                                        · have hF := if_p c36 hF
                                          refine lv_tableIn (x := v17) (tgt := 779) hx hb dL_law_33 (by rw [c36]; decide) (by rw [c36]; decide) (by rw [c36]; rfl) (by decide) ?_
                                          exact b_L_law_779 hV hVs hs hVx hn0 hXs hbl hbd X (fb_L_law_18 V xs L t) @ihm ih _ _ _ _ _ _ _ _ _ _ (by omega) hp (lv_sub hl [0, 1, 2, 3] rfl) hF
                                        · have hF := if_n c36 hF
                                          by_cases c37 : v17 = (18 : Int32)
                                          · have hF := if_p c37 hF
                                            refine lv_tableIn (x := v17) (tgt := 812) hx hb dL_law_33 (by rw [c37]; decide) (by rw [c37]; decide) (by rw [c37]; rfl) (by decide) ?_
                                            exact b_L_law_812 hV hVs hs hVx hn0 hXs hbl hbd X (fb_L_law_18 V xs L t) @ihm ih _ _ _ _ _ _ _ _ _ _ (by omega) hp (lv_sub hl [0, 1, 2, 3] rfl) hF
                                          · have hF := if_n c37 hF
                                            by_cases c38 : v17 = (19 : Int32)
                                            · have hF := if_p c38 hF
                                              refine lv_tableIn (x := v17) (tgt := 845) hx hb dL_law_33 (by rw [c38]; decide) (by rw [c38]; decide) (by rw [c38]; rfl) (by decide) ?_
                                              exact b_L_law_845 hV hVs hs hVx hn0 hXs hbl hbd X (fb_L_law_18 V xs L t) @ihm ih _ _ _ _ _ _ _ _ _ _ (by omega) hp (lv_sub hl [0, 1, 2, 3] rfl) hF
                                            · have hF := if_n c38 hF
                                              by_cases c39 : v17 = (20 : Int32)
                                              · have hF := if_p c39 hF
                                                refine lv_tableIn (x := v17) (tgt := 868) hx hb dL_law_33 (by rw [c39]; decide) (by rw [c39]; decide) (by rw [c39]; rfl) (by decide) ?_
                                                exact b_L_law_868 hV hVs hs hVx hn0 hXs hbl hbd X (fb_L_law_18 V xs L t) @ihm ih _ _ _ _ _ _ _ _ _ _ (by omega) hp (lv_sub hl [0, 1, 2, 3] rfl) hF
                                              · have hF := if_n c39 hF
                                                by_cases c40 : v17 = (21 : Int32)
                                                · have hF := if_p c40 hF
                                                  refine lv_tableIn (x := v17) (tgt := 891) hx hb dL_law_33 (by rw [c40]; decide) (by rw [c40]; decide) (by rw [c40]; rfl) (by decide) ?_
                                                  exact b_L_law_891 hV hVs hs hVx hn0 hXs hbl hbd X (fb_L_law_18 V xs L t) @ihm ih _ _ _ _ _ _ _ _ _ _ (by omega) hp (lv_sub hl [0, 1, 2, 3] rfl) hF
                                                · have hF := if_n c40 hF
                                                  by_cases c41 : v17 = (22 : Int32)
                                                  · have hF := if_p c41 hF
                                                    refine lv_tableIn (x := v17) (tgt := 914) hx hb dL_law_33 (by rw [c41]; decide) (by rw [c41]; decide) (by rw [c41]; rfl) (by decide) ?_
                                                    exact b_L_law_914 hV hVs hs hVx hn0 hXs hbl hbd X (fb_L_law_18 V xs L t) @ihm ih _ _ _ _ _ _ _ _ _ _ (by omega) hp (lv_sub hl [0, 1, 2, 3] rfl) hF
                                                  · have hF := if_n c41 hF
                                                    by_cases c42 : v17 = (23 : Int32)
                                                    · have hF := if_p c42 hF
                                                      refine lv_tableIn (x := v17) (tgt := 957) hx hb dL_law_33 (by rw [c42]; decide) (by rw [c42]; decide) (by rw [c42]; rfl) (by decide) ?_
                                                      exact b_L_law_957 hV hVs hs hVx hn0 hXs hbl hbd X (fb_L_law_18 V xs L t) @ihm ih _ _ _ _ _ _ _ _ _ _ (by omega) hp (lv_sub hl [0, 1, 2, 3] rfl) hF
                                                    · have hF := if_n c42 hF
                                                      by_cases c43 : v17 = (24 : Int32)
                                                      · have hF := if_p c43 hF
                                                        refine lv_tableIn (x := v17) (tgt := 1000) hx hb dL_law_33 (by rw [c43]; decide) (by rw [c43]; decide) (by rw [c43]; rfl) (by decide) ?_
                                                        exact b_L_law_1000 hV hVs hs hVx hn0 hXs hbl hbd X (fb_L_law_18 V xs L t) @ihm ih _ _ _ _ _ _ _ _ _ _ (by omega) hp (lv_sub hl [0, 1, 2, 3] rfl) hF
                                                      · have hF := if_n c43 hF
                                                        by_cases c44 : v17 = (25 : Int32)
                                                        · have hF := if_p c44 hF
                                                          refine lv_tableIn (x := v17) (tgt := 1033) hx hb dL_law_33 (by rw [c44]; decide) (by rw [c44]; decide) (by rw [c44]; rfl) (by decide) ?_
                                                          exact b_L_law_1033 hV hVs hs hVx hn0 hXs hbl hbd X (fb_L_law_18 V xs L t) @ihm ih _ _ _ _ _ _ _ _ _ _ (by omega) hp (lv_sub hl [0, 1, 2, 3] rfl) hF
                                                        · have hF := if_n c44 hF
                                                          by_cases c45 : v17 = (26 : Int32)
                                                          · have hF := if_p c45 hF
                                                            refine lv_tableIn (x := v17) (tgt := 1066) hx hb dL_law_33 (by rw [c45]; decide) (by rw [c45]; decide) (by rw [c45]; rfl) (by decide) ?_
                                                            exact b_L_law_1066 hV hVs hs hVx hn0 hXs hbl hbd X (fb_L_law_18 V xs L t) @ihm ih _ _ _ _ _ _ _ _ _ _ (by omega) hp (lv_sub hl [0, 1, 2, 3] rfl) hF
                                                          · have hF := if_n c45 hF
                                                            by_cases c46 : v17 = (27 : Int32)
                                                            · have hF := if_p c46 hF
                                                              refine lv_tableIn (x := v17) (tgt := 1089) hx hb dL_law_33 (by rw [c46]; decide) (by rw [c46]; decide) (by rw [c46]; rfl) (by decide) ?_
                                                              exact b_L_law_1089 hV hVs hs hVx hn0 hXs hbl hbd X (fb_L_law_18 V xs L t) @ihm ih _ _ _ _ _ _ _ _ _ _ (by omega) hp (lv_sub hl [0, 1, 2, 3] rfl) hF
                                                            · have hF := if_n c46 hF
                                                              by_cases c47 : v17 = (28 : Int32)
                                                              · have hF := if_p c47 hF
                                                                refine lv_tableIn (x := v17) (tgt := 1122) hx hb dL_law_33 (by rw [c47]; decide) (by rw [c47]; decide) (by rw [c47]; rfl) (by decide) ?_
                                                                exact b_L_law_1122 hV hVs hs hVx hn0 hXs hbl hbd X (fb_L_law_18 V xs L t) @ihm ih _ _ _ _ _ _ _ _ _ _ (by omega) hp (lv_sub hl [0, 1, 2, 3] rfl) hF
                                                              · have hF := if_n c47 hF
                                                                by_cases c48 : v17 = (29 : Int32)
                                                                · have hF := if_p c48 hF
                                                                  refine lv_tableIn (x := v17) (tgt := 1135) hx hb dL_law_33 (by rw [c48]; decide) (by rw [c48]; decide) (by rw [c48]; rfl) (by decide) ?_
                                                                  exact b_L_law_1135 hV hVs hs hVx hn0 hXs hbl hbd X (fb_L_law_18 V xs L t) @ihm ih _ _ _ _ _ _ _ _ _ _ (by omega) hp (lv_sub hl [0, 1, 2, 3] rfl) hF
                                                                · have hF := if_n c48 hF
                                                                  by_cases c49 : v17 = (30 : Int32)
                                                                  · have hF := if_p c49 hF
                                                                    refine lv_tableIn (x := v17) (tgt := 1168) hx hb dL_law_33 (by rw [c49]; decide) (by rw [c49]; decide) (by rw [c49]; rfl) (by decide) ?_
                                                                    exact b_L_law_1168 hV hVs hs hVx hn0 hXs hbl hbd X (fb_L_law_18 V xs L t) @ihm ih _ _ _ _ _ _ _ _ _ _ (by omega) hp (lv_sub hl [0, 1, 2, 3] rfl) hF
                                                                  · have hF := if_n c49 hF
                                                                    by_cases c50 : v17 = (31 : Int32)
                                                                    · have hF := if_p c50 hF
                                                                      refine lv_tableIn (x := v17) (tgt := 1191) hx hb dL_law_33 (by rw [c50]; decide) (by rw [c50]; decide) (by rw [c50]; rfl) (by decide) ?_
                                                                      exact b_L_law_1191 hV hVs hs hVx hn0 hXs hbl hbd X (fb_L_law_18 V xs L t) @ihm ih _ _ _ _ _ _ _ _ _ _ (by omega) hp (lv_sub hl [0, 1, 2, 3] rfl) hF
                                                                    · have hF := if_n c50 hF
                                                                      by_cases c51 : v17 = (32 : Int32)
                                                                      · have hF := if_p c51 hF
                                                                        refine lv_tableIn (x := v17) (tgt := 1234) hx hb dL_law_33 (by rw [c51]; decide) (by rw [c51]; decide) (by rw [c51]; rfl) (by decide) ?_
                                                                        exact b_L_law_1234 hV hVs hs hVx hn0 hXs hbl hbd X (fb_L_law_18 V xs L t) @ihm ih _ _ _ _ _ _ _ _ _ _ (by omega) hp (lv_sub hl [0, 1, 2, 3] rfl) hF
                                                                      · have hF := if_n c51 hF
                                                                        by_cases c52 : v17 = (33 : Int32)
                                                                        · have hF := if_p c52 hF
                                                                          refine lv_tableIn (x := v17) (tgt := 1247) hx hb dL_law_33 (by rw [c52]; decide) (by rw [c52]; decide) (by rw [c52]; rfl) (by decide) ?_
                                                                          exact b_L_law_1247 hV hVs hs hVx hn0 hXs hbl hbd X (fb_L_law_18 V xs L t) @ihm ih _ _ _ _ _ _ _ _ _ _ (by omega) hp (lv_sub hl [0, 1, 2, 3] rfl) hF
                                                                        · have hF := if_n c52 hF
                                                                          by_cases c53 : v17 = (34 : Int32)
                                                                          · have hF := if_p c53 hF
                                                                            refine lv_tableIn (x := v17) (tgt := 1286) hx hb dL_law_33 (by rw [c53]; decide) (by rw [c53]; decide) (by rw [c53]; rfl) (by decide) ?_
                                                                            exact b_L_law_1286 hV hVs hs hVx hn0 hXs hbl hbd X (fb_L_law_18 V xs L t) @ihm ih _ _ _ _ _ _ _ _ _ _ (by omega) hp (lv_sub hl [0, 1, 2, 3] rfl) hF
                                                                          · have hF := if_n c53 hF
                                                                            refine lv_tableOut (x := v17) (tgt := 1309) hx hb dL_law_33 (tb_out 34 (by decide) (by decide) (fun j hj => by
                                                                              match j, hj with
                                                                              | 0, _ => exact c19
                                                                              | 1, _ => exact c20
                                                                              | 2, _ => exact c21
                                                                              | 3, _ => exact c22
                                                                              | 4, _ => exact c23
                                                                              | 5, _ => exact c24
                                                                              | 6, _ => exact c25
                                                                              | 7, _ => exact c26
                                                                              | 8, _ => exact c27
                                                                              | 9, _ => exact c28
                                                                              | 10, _ => exact c29
                                                                              | 11, _ => exact c30
                                                                              | 12, _ => exact c31
                                                                              | 13, _ => exact c32
                                                                              | 14, _ => exact c33
                                                                              | 15, _ => exact c34
                                                                              | 16, _ => exact c35
                                                                              | 17, _ => exact c36
                                                                              | 18, _ => exact c37
                                                                              | 19, _ => exact c38
                                                                              | 20, _ => exact c39
                                                                              | 21, _ => exact c40
                                                                              | 22, _ => exact c41
                                                                              | 23, _ => exact c42
                                                                              | 24, _ => exact c43
                                                                              | 25, _ => exact c44
                                                                              | 26, _ => exact c45
                                                                              | 27, _ => exact c46
                                                                              | 28, _ => exact c47
                                                                              | 29, _ => exact c48
                                                                              | 30, _ => exact c49
                                                                              | 31, _ => exact c50
                                                                              | 32, _ => exact c51
                                                                              | 33, _ => exact c52
                                                                              | 34, _ => exact c53
                                                                              | j + 35, hj => exact absurd hj (by omega))) (by decide) ?_
                                                                            exact b_L_law_1309 hV hVs hs hVx hn0 hXs hbl hbd X (fb_L_law_18 V xs L t) @ihm ih _ _ _ _ _ _ _ _ _ _ (by omega) hp (lv_sub hl [0, 1, 2, 3] rfl) hF
def fb_L_law_15 (V : Nat → Nat) (xs : Nat → Int32) (L : Nat) (S : mSh) (M : mMm) (n z : Nat) (x1 : Nat) (y0 : Nat) : Option (Int32 × mSh × mMm × Nat × Nat) := nm ((0 : Int32)) fun v13 => (fb_L_law_18 V xs L FU S M n z x1 y0 v13)
theorem mn_L_law_15 {S' : mSh} {M' : mMm} {n' z' : Nat} : ∀ {S : mSh} {M : mMm} {n z : Nat} {x1 : Nat} {y0 : Nat}, fb_L_law_15 V xs L S M n z x1 y0 = some (1, S', M', n', z') → n ≤ n' ∧ z ≤ z' := by
  intro S M n z x1 y0 hF
  unfold fb_L_law_15 at hF
  obtain ⟨v13, ev14, hF⟩ := nm_ex hF
  have h9 := (mn_L_law_18 (V := V) (xs := xs) (L := L)) hF
  exact ⟨by omega, by omega⟩
theorem b_L_law_15 {S' : mSh} {M' : mMm} {n' z' : Nat} (hV : mV V n0 P) (hVs : mVs V n0 P) (hs : l.stackTraces = false) (hVx : mVx n0 P) (hn0 : s.heap.size = n0) (hXs : va_X b L xs s s.heap) (hbl : b < n0) (hbd : n' - n0 ≤ 601024 ∧ z' ≤ 7293034) (X : mCx D n0 P p m c cL_law 4 s #[Value.ref b] "WindingSquareLaw" meth (some .boolean)) : ∀ (S : mSh) (M : mMm) (n z : Nat) (x1 : Nat) (y0 : Nat) (H : Heap) (locs : List Loc) (ls : Array Slot), n0 ≤ n → mHp D n0 S M n s H locs → lv_has ls 4 [(0, .ref b), (1, .ref x1)] → fb_L_law_15 V xs L S M n z x1 y0 = some (1, S', M', n', z') → W p l e room_1 s m #[Value.ref b] below meth c H locs (n - n0) (z) (lw_Z below #[Value.ref b] s) (F0 m 15 ls [.ref y0]) := by
  have hx := X.1.1
  have hb := X.1.2.1
  have hown := X.1.2.2.2.1
  have hts := X.1.2.2.2.2
  intro S M n z x1 y0 H locs ls hn hp hl hF
  have hm0 := mn_L_law_15 hF
  unfold fb_L_law_15 at hF
  refine lv_astore_n (lv' := [(2, .ref y0), (0, .ref b), (1, .ref x1)]) hx hb dL_law_15 rfl hl (by decide) rfl (fun ls hl => ?_)
  refine lv_iconst (v := 0) hx hb dL_law_16 (by decide) ?_
  refine lv_topi (fun v13 ev14 => ?_)
  have hF := nm_s hF ev14
  refine lv_istore_n (lv' := [(3, .int v13), (2, .ref y0), (0, .ref b), (1, .ref x1)]) hx hb dL_law_17 rfl hl (by decide) rfl (fun ls hl => ?_)
  exact b_L_law_18 hV hVs hs hVx hn0 hXs hbl hbd X _ _ _ _ _ _ _ _ _ _ _ (by omega) hp (lv_sub hl [2, 3, 1, 0] rfl) hF
def fb_L_law_11 (V : Nat → Nat) (xs : Nat → Int32) (L : Nat) (S : mSh) (M : mMm) (n z : Nat) (x1 : Nat) (y0 : Nat) : Option (Int32 × mSh × mMm × Nat × Nat) := ob (f_X5_init V S M n z y0) fun ⟨S10, M9, n11, z12⟩ => (fb_L_law_15 V xs L S10 M9 n11 z12 x1 y0)
theorem mn_L_law_11 {S' : mSh} {M' : mMm} {n' z' : Nat} : ∀ {S : mSh} {M : mMm} {n z : Nat} {x1 : Nat} {y0 : Nat}, fb_L_law_11 V xs L S M n z x1 y0 = some (1, S', M', n', z') → n ≤ n' ∧ z ≤ z' := by
  intro S M n z x1 y0 hF
  unfold fb_L_law_11 at hF
  obtain ⟨⟨S10, M9, n11, z12⟩, e7, hF⟩ := ob_s hF
  have hc := mn_X5_init e7
  have h9 := (mn_L_law_15 (V := V) (xs := xs) (L := L)) hF
  exact ⟨by omega, by omega⟩
theorem b_L_law_11 {S' : mSh} {M' : mMm} {n' z' : Nat} (hV : mV V n0 P) (hVs : mVs V n0 P) (hs : l.stackTraces = false) (hVx : mVx n0 P) (hn0 : s.heap.size = n0) (hXs : va_X b L xs s s.heap) (hbl : b < n0) (hbd : n' - n0 ≤ 601024 ∧ z' ≤ 7293034) (X : mCx D n0 P p m c cL_law 4 s #[Value.ref b] "WindingSquareLaw" meth (some .boolean)) : ∀ (S : mSh) (M : mMm) (n z : Nat) (x1 : Nat) (y0 : Nat) (H : Heap) (locs : List Loc) (ls : Array Slot), n0 ≤ n → mHp D n0 S M n s H locs → lv_has ls 4 [(0, .ref b), (1, .ref x1)] → fb_L_law_11 V xs L S M n z x1 y0 = some (1, S', M', n', z') → W p l e room_1 s m #[Value.ref b] below meth c H locs (n - n0) (z) (lw_Z below #[Value.ref b] s) (F0 m 11 ls [.ref y0]) := by
  have hx := X.1.1
  have hb := X.1.2.1
  have hown := X.1.2.2.2.1
  have hts := X.1.2.2.2.2
  intro S M n z x1 y0 H locs ls hn hp hl hF
  have hm0 := mn_L_law_11 hF
  unfold fb_L_law_11 at hF
  refine lv_dup hx hb dL_law_11 rfl ?_
  obtain ⟨⟨S10, M9, n11, z12⟩, e7, hF⟩ := ob_s hF
  have hc := mn_X5_init e7
  have hm := (mn_L_law_15 (V := V) (xs := xs) (L := L)) hF
  refine m_callI (As := []) (rest := [.ref y0]) X hp (w_X5_init hV e7) q1455 q1456 q144 q1457 rfl 0 rfl ds_X5_init ⟨Nat.le_of_ble_eq_true rfl, Nat.le_of_ble_eq_true rfl⟩ hl.1 rfl (Nat.le_of_ble_eq_true rfl) dL_law_12 ⟨by show _ ≤ 601024; omega, by show _ ≤ 7293034; omega⟩ (fun H locs hp => ?_)
  refine W.widen (k := n11 - n0) (n := z12) (by omega) (by omega) ?_
  exact b_L_law_15 hV hVs hs hVx hn0 hXs hbl hbd X _ _ _ _ _ _ _ _ _ (by omega) hp (lv_sub hl [0, 1] rfl) hF
def fb_L_law_7 (V : Nat → Nat) (xs : Nat → Int32) (L : Nat) (S : mSh) (M : mMm) (n z : Nat) (y0 : Nat) : Option (Int32 × mSh × mMm × Nat × Nat) := (fb_L_law_11 V xs L (mS1 S n (6, 0)) (mM1 M n fun k => defaultValue (tyX5 k)) (n + 1) (z + 40) y0 n)
theorem mn_L_law_7 {S' : mSh} {M' : mMm} {n' z' : Nat} : ∀ {S : mSh} {M : mMm} {n z : Nat} {y0 : Nat}, fb_L_law_7 V xs L S M n z y0 = some (1, S', M', n', z') → n ≤ n' ∧ z ≤ z' := by
  intro S M n z y0 hF
  unfold fb_L_law_7 at hF
  have h9 := (mn_L_law_11 (V := V) (xs := xs) (L := L)) hF
  exact ⟨by omega, by omega⟩
theorem b_L_law_7 {S' : mSh} {M' : mMm} {n' z' : Nat} (hV : mV V n0 P) (hVs : mVs V n0 P) (hs : l.stackTraces = false) (hVx : mVx n0 P) (hn0 : s.heap.size = n0) (hXs : va_X b L xs s s.heap) (hbl : b < n0) (hbd : n' - n0 ≤ 601024 ∧ z' ≤ 7293034) (X : mCx D n0 P p m c cL_law 4 s #[Value.ref b] "WindingSquareLaw" meth (some .boolean)) : ∀ (S : mSh) (M : mMm) (n z : Nat) (y0 : Nat) (H : Heap) (locs : List Loc) (ls : Array Slot), n0 ≤ n → mHp D n0 S M n s H locs → lv_has ls 4 [(0, .ref b)] → fb_L_law_7 V xs L S M n z y0 = some (1, S', M', n', z') → W p l e room_1 s m #[Value.ref b] below meth c H locs (n - n0) (z) (lw_Z below #[Value.ref b] s) (F0 m 7 ls [.ref y0]) := by
  have hx := X.1.1
  have hb := X.1.2.1
  have hown := X.1.2.2.2.1
  have hts := X.1.2.2.2.2
  intro S M n z y0 H locs ls hn hp hl hF
  have hm0 := mn_L_law_7 hF
  unfold fb_L_law_7 at hF
  refine lv_astore_n (lv' := [(1, .ref y0), (0, .ref b)]) hx hb dL_law_7 rfl hl (by decide) rfl (fun ls hl => ?_)
  have hm := (mn_L_law_11 (V := V) (xs := xs) (L := L)) hF
  refine m_new X hp kX5 q1453 q1454 q144 (by show _ ≤ 601024; omega) (by show _ ≤ 7293034; omega) dL_law_8 (fun H hp => ?_)
  refine W.widen (k := n + 1 - n0) (n := z + 40) (by omega) (by omega) ?_
  exact b_L_law_11 hV hVs hs hVx hn0 hXs hbl hbd X _ _ _ _ _ _ _ _ _ (by omega) hp (lv_sub hl [1, 0] rfl) hF
def fb_L_law_3 (V : Nat → Nat) (xs : Nat → Int32) (L : Nat) (S : mSh) (M : mMm) (n z : Nat) (y0 : Nat) : Option (Int32 × mSh × mMm × Nat × Nat) := ob (f_X0_init V S M n z y0) fun ⟨S4, M3, n5, z6⟩ => (fb_L_law_7 V xs L S4 M3 n5 z6  y0)
theorem mn_L_law_3 {S' : mSh} {M' : mMm} {n' z' : Nat} : ∀ {S : mSh} {M : mMm} {n z : Nat} {y0 : Nat}, fb_L_law_3 V xs L S M n z y0 = some (1, S', M', n', z') → n ≤ n' ∧ z ≤ z' := by
  intro S M n z y0 hF
  unfold fb_L_law_3 at hF
  obtain ⟨⟨S4, M3, n5, z6⟩, e1, hF⟩ := ob_s hF
  have hc := mn_X0_init e1
  have h9 := (mn_L_law_7 (V := V) (xs := xs) (L := L)) hF
  exact ⟨by omega, by omega⟩
theorem b_L_law_3 {S' : mSh} {M' : mMm} {n' z' : Nat} (hV : mV V n0 P) (hVs : mVs V n0 P) (hs : l.stackTraces = false) (hVx : mVx n0 P) (hn0 : s.heap.size = n0) (hXs : va_X b L xs s s.heap) (hbl : b < n0) (hbd : n' - n0 ≤ 601024 ∧ z' ≤ 7293034) (X : mCx D n0 P p m c cL_law 4 s #[Value.ref b] "WindingSquareLaw" meth (some .boolean)) : ∀ (S : mSh) (M : mMm) (n z : Nat) (y0 : Nat) (H : Heap) (locs : List Loc) (ls : Array Slot), n0 ≤ n → mHp D n0 S M n s H locs → lv_has ls 4 [(0, .ref b)] → fb_L_law_3 V xs L S M n z y0 = some (1, S', M', n', z') → W p l e room_1 s m #[Value.ref b] below meth c H locs (n - n0) (z) (lw_Z below #[Value.ref b] s) (F0 m 3 ls [.ref y0]) := by
  have hx := X.1.1
  have hb := X.1.2.1
  have hown := X.1.2.2.2.1
  have hts := X.1.2.2.2.2
  intro S M n z y0 H locs ls hn hp hl hF
  have hm0 := mn_L_law_3 hF
  unfold fb_L_law_3 at hF
  refine lv_dup hx hb dL_law_3 rfl ?_
  obtain ⟨⟨S4, M3, n5, z6⟩, e1, hF⟩ := ob_s hF
  have hc := mn_X0_init e1
  have hm := (mn_L_law_7 (V := V) (xs := xs) (L := L)) hF
  refine m_callI (As := []) (rest := [.ref y0]) X hp (w_X0_init hV e1) q164 q165 q132 q166 rfl 0 rfl ds_X0_init ⟨Nat.le_of_ble_eq_true rfl, Nat.le_of_ble_eq_true rfl⟩ hl.1 rfl (Nat.le_of_ble_eq_true rfl) dL_law_4 ⟨by show _ ≤ 601024; omega, by show _ ≤ 7293034; omega⟩ (fun H locs hp => ?_)
  refine W.widen (k := n5 - n0) (n := z6) (by omega) (by omega) ?_
  exact b_L_law_7 hV hVs hs hVx hn0 hXs hbl hbd X _ _ _ _  _ _ _ _ (by omega) hp (lv_sub hl [0] rfl) hF
def fb_L_law_0 (V : Nat → Nat) (xs : Nat → Int32) (L : Nat) (S : mSh) (M : mMm) (n z : Nat) : Option (Int32 × mSh × mMm × Nat × Nat) := (fb_L_law_3 V xs L (mS1 S n (1, 0)) (mM1 M n fun k => defaultValue (tyX0 k)) (n + 1) (z + 30)  n)
theorem mn_L_law_0 {S' : mSh} {M' : mMm} {n' z' : Nat} : ∀ {S : mSh} {M : mMm} {n z : Nat}, fb_L_law_0 V xs L S M n z = some (1, S', M', n', z') → n ≤ n' ∧ z ≤ z' := by
  intro S M n z hF
  unfold fb_L_law_0 at hF
  have h9 := (mn_L_law_3 (V := V) (xs := xs) (L := L)) hF
  exact ⟨by omega, by omega⟩
theorem b_L_law_0 {S' : mSh} {M' : mMm} {n' z' : Nat} (hV : mV V n0 P) (hVs : mVs V n0 P) (hs : l.stackTraces = false) (hVx : mVx n0 P) (hn0 : s.heap.size = n0) (hXs : va_X b L xs s s.heap) (hbl : b < n0) (hbd : n' - n0 ≤ 601024 ∧ z' ≤ 7293034) (X : mCx D n0 P p m c cL_law 4 s #[Value.ref b] "WindingSquareLaw" meth (some .boolean)) : ∀ (S : mSh) (M : mMm) (n z : Nat) (H : Heap) (locs : List Loc) (ls : Array Slot), n0 ≤ n → mHp D n0 S M n s H locs → lv_has ls 4 [(0, .ref b)] → fb_L_law_0 V xs L S M n z = some (1, S', M', n', z') → W p l e room_1 s m #[Value.ref b] below meth c H locs (n - n0) (z) (lw_Z below #[Value.ref b] s) (F0 m 0 ls []) := by
  have hx := X.1.1
  have hb := X.1.2.1
  have hown := X.1.2.2.2.1
  have hts := X.1.2.2.2.2
  intro S M n z H locs ls hn hp hl hF
  have hm0 := mn_L_law_0 hF
  unfold fb_L_law_0 at hF
  have hm := (mn_L_law_3 (V := V) (xs := xs) (L := L)) hF
  refine m_new X hp kX0 q162 q163 q132 (by show _ ≤ 601024; omega) (by show _ ≤ 7293034; omega) dL_law_0 (fun H hp => ?_)
  refine W.widen (k := n + 1 - n0) (n := z + 30) (by omega) (by omega) ?_
  exact b_L_law_3 hV hVs hs hVx hn0 hXs hbl hbd X _ _ _ _  _ _ _ _ (by omega) hp (lv_sub hl [0] rfl) hF
def f_L_law (V : Nat → Nat) (xs : Nat → Int32) (L : Nat) (S : mSh) (M : mMm) (n z : Nat) : Option (Int32 × mSh × mMm × Nat × Nat) := (fb_L_law_0 V xs L S M n z )
end
