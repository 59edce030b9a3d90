set_option maxRecDepth 100000
section
variable {l : Launch} {D : va_G} {n0 : Nat} {P : mP} {V : Nat → Nat} {p : Program} {e : Env} {s : State} {m : MethodId} {args : Array Value} {below : List Frame} {meth : Method} {c : Code}
abbrev Rm_X6_ways (mc ms : Nat) : Room := { frames := 12, cells := mc, slots := ms, locals := 309 }
def fb_X6_ways_22 (V : Nat → Nat) (k2 : mSh → mMm → Nat → Nat → Nat → Int32 → Option ((Nat ⊕ Nat) × mSh × mMm × Nat × Nat)) (S : mSh) (M : mMm) (n z : Nat) (x0 : Nat) (x1 : Int32) (y0 : Int32) : Option ((Nat ⊕ Nat) × mSh × mMm × Nat × Nat) := nm (x1 + (1 : Int32)) fun v23 => (k2 S M n z x0 v23)
theorem mn_X6_ways_22 {r : Nat ⊕ Nat} {S' : mSh} {M' : mMm} {n' z' : Nat} (k2 : mSh → mMm → Nat → Nat → Nat → Int32 → Option ((Nat ⊕ Nat) × mSh × mMm × Nat × Nat)) (hmk2 : ∀ {S : mSh} {M : mMm} {n z : Nat} {x0 : Nat} {x1 : Int32}, k2 S M n z x0 x1 = some (r, S', M', n', z') → n ≤ n' ∧ z ≤ z') : ∀ {S : mSh} {M : mMm} {n z : Nat} {x0 : Nat} {x1 : Int32} {y0 : Int32}, fb_X6_ways_22 V k2 S M n z x0 x1 y0 = some (r, S', M', n', z') → n ≤ n' ∧ z ≤ z' := by
  intro S M n z x0 x1 y0 hF
  unfold fb_X6_ways_22 at hF
  obtain ⟨v23, ev24⟩ : ∃ y : Int32, y = x1 + (1 : Int32) := ⟨_, rfl⟩
  have hF := nm_s hF rfl
  have h9 := hmk2 hF
  exact ⟨by omega, by omega⟩
theorem b_X6_ways_22 {r : Nat ⊕ Nat} {S' : mSh} {M' : mMm} {n' z' : Nat} {nS zS : Nat} (hV : mV V n0 P) (hVs : mVs V n0 P) (hs : l.stackTraces = false) (hVx : mVx n0 P) (X : mCx D n0 P p m c cX6_ways 2 s args yX6_ways.cls meth (some (.object "java/util/ArrayList"))) (hX : ∀ x ∈ c.exceptionTable.toList, False) (k2 : mSh → mMm → Nat → Nat → Nat → Int32 → Option ((Nat ⊕ Nat) × mSh × mMm × Nat × Nat)) (hmk2 : ∀ {S : mSh} {M : mMm} {n z : Nat} {x0 : Nat} {x1 : Int32}, k2 S M n z x0 x1 = some (r, S', M', n', z') → n ≤ n' ∧ z ≤ z') (hk2 : ∀ (S : mSh) (M : mMm) (n z : Nat) (x0 : Nat) (x1 : Int32) (H : Heap) (locs : List Loc) (ls : Array Slot), nS ≤ n → zS ≤ z → mHp D n0 S M n s H locs → lv_has ls 2 [(0, .ref x0), (1, .int x1)] → k2 S M n z x0 x1 = some (r, S', M', n', z') → W p l e (Rm_X6_ways (n' - nS) (z' - zS)) s m args below meth c H locs (n - nS) (z - zS) (mMX below D n0 (moR r) S' M' n' args s (n' - nS) (z' - zS)) (F0 m 2 ls [])) : ∀ (S : mSh) (M : mMm) (n z : Nat) (x0 : Nat) (x1 : Int32) (y0 : Int32) (H : Heap) (locs : List Loc) (ls : Array Slot), nS ≤ n → zS ≤ z → mHp D n0 S M n s H locs → lv_has ls 2 [(0, .ref x0), (1, .int x1)] → fb_X6_ways_22 V k2 S M n z x0 x1 y0 = some (r, S', M', n', z') → W p l e (Rm_X6_ways (n' - nS) (z' - zS)) s m args below meth c H locs (n - nS) (z - zS) (mMX below D n0 (moR r) S' M' n' args s (n' - nS) (z' - zS)) (F0 m 22 ls [.int y0]) := by
  have hx := X.1.1
  have hb := X.1.2.1
  have hown := X.1.2.2.2.1
  have hts := X.1.2.2.2.2
  intro S M n z x0 x1 y0 H locs ls hn hz hp hl hF
  have hm0 := mn_X6_ways_22 _ hmk2 hF
  unfold fb_X6_ways_22 at hF
  refine lv_pop hx hb dX6_ways_22 rfl ?_
  obtain ⟨v23, ev24⟩ : ∃ y : Int32, y = x1 + (1 : Int32) := ⟨_, rfl⟩
  have hF := nm_s hF ev24
  refine lv_iinc (v := v23) (lv' := [(1, .int v23), (0, .ref x0)]) hx hb dX6_ways_23 hl (k := 1) rfl (by rw [ev24]; rfl) (by decide) rfl (fun ls hl => ?_)
  refine lv_goto (tgt := 2) hx hb dX6_ways_26 (by decide) ?_
  exact hk2 _ _ _ _ _ _ _ _ _ (by omega) (by omega) hp (lv_sub hl [1, 0] rfl) hF
def fb_X6_ways_19 (V : Nat → Nat) (k2 : mSh → mMm → Nat → Nat → Nat → Int32 → Option ((Nat ⊕ Nat) × mSh × mMm × Nat × Nat)) (S : mSh) (M : mMm) (n z : Nat) (x0 : Nat) (x1 : Int32) (y0 : Nat) (y1 : Nat) : Option ((Nat ⊕ Nat) × mSh × mMm × Nat × Nat) := gd ((S y1).1 = 15) (ob (f_J2_add V S M n z y1 y0) fun ⟨v18, S20, M19, n21, z22⟩ => (fb_X6_ways_22 V k2 S20 M19 n21 z22 x0 x1 v18))
theorem mn_X6_ways_19 {r : Nat ⊕ Nat} {S' : mSh} {M' : mMm} {n' z' : Nat} (k2 : mSh → mMm → Nat → Nat → Nat → Int32 → Option ((Nat ⊕ Nat) × mSh × mMm × Nat × Nat)) (hmk2 : ∀ {S : mSh} {M : mMm} {n z : Nat} {x0 : Nat} {x1 : Int32}, k2 S M n z x0 x1 = some (r, S', M', n', z') → n ≤ n' ∧ z ≤ z') : ∀ {S : mSh} {M : mMm} {n z : Nat} {x0 : Nat} {x1 : Int32} {y0 : Nat} {y1 : Nat}, fb_X6_ways_19 V k2 S M n z x0 x1 y0 y1 = some (r, S', M', n', z') → n ≤ n' ∧ z ≤ z' := by
  intro S M n z x0 x1 y0 y1 hF
  unfold fb_X6_ways_19 at hF
  obtain ⟨g16, hF⟩ := gd_s hF
  obtain ⟨⟨v18, S20, M19, n21, z22⟩, e17, hF⟩ := ob_s hF
  have hc := mn_J2_add e17
  have h9 := (mn_X6_ways_22 (V := V) k2 hmk2) hF
  exact ⟨by omega, by omega⟩
theorem b_X6_ways_19 {r : Nat ⊕ Nat} {S' : mSh} {M' : mMm} {n' z' : Nat} {nS zS : Nat} (hV : mV V n0 P) (hVs : mVs V n0 P) (hs : l.stackTraces = false) (hVx : mVx n0 P) (X : mCx D n0 P p m c cX6_ways 2 s args yX6_ways.cls meth (some (.object "java/util/ArrayList"))) (hX : ∀ x ∈ c.exceptionTable.toList, False) (k2 : mSh → mMm → Nat → Nat → Nat → Int32 → Option ((Nat ⊕ Nat) × mSh × mMm × Nat × Nat)) (hmk2 : ∀ {S : mSh} {M : mMm} {n z : Nat} {x0 : Nat} {x1 : Int32}, k2 S M n z x0 x1 = some (r, S', M', n', z') → n ≤ n' ∧ z ≤ z') (hk2 : ∀ (S : mSh) (M : mMm) (n z : Nat) (x0 : Nat) (x1 : Int32) (H : Heap) (locs : List Loc) (ls : Array Slot), nS ≤ n → zS ≤ z → mHp D n0 S M n s H locs → lv_has ls 2 [(0, .ref x0), (1, .int x1)] → k2 S M n z x0 x1 = some (r, S', M', n', z') → W p l e (Rm_X6_ways (n' - nS) (z' - zS)) s m args below meth c H locs (n - nS) (z - zS) (mMX below D n0 (moR r) S' M' n' args s (n' - nS) (z' - zS)) (F0 m 2 ls [])) : ∀ (S : mSh) (M : mMm) (n z : Nat) (x0 : Nat) (x1 : Int32) (y0 : Nat) (y1 : Nat) (H : Heap) (locs : List Loc) (ls : Array Slot), nS ≤ n → zS ≤ z → mHp D n0 S M n s H locs → lv_has ls 2 [(0, .ref x0), (1, .int x1)] → fb_X6_ways_19 V k2 S M n z x0 x1 y0 y1 = some (r, S', M', n', z') → W p l e (Rm_X6_ways (n' - nS) (z' - zS)) s m args below meth c H locs (n - nS) (z - zS) (mMX below D n0 (moR r) S' M' n' args s (n' - nS) (z' - zS)) (F0 m 19 ls [.ref y0, .ref y1]) := by
  have hx := X.1.1
  have hb := X.1.2.1
  have hown := X.1.2.2.2.1
  have hts := X.1.2.2.2.2
  intro S M n z x0 x1 y0 y1 H locs ls hn hz hp hl hF
  have hm0 := mn_X6_ways_19 _ hmk2 hF
  unfold fb_X6_ways_19 at hF
  obtain ⟨g16, hF⟩ := gd_s hF
  obtain ⟨⟨v18, S20, M19, n21, z22⟩, e17, hF⟩ := ob_s hF
  have hc := mn_J2_add e17
  have hm := (mn_X6_ways_22 (V := V) k2 hmk2) hF
  refine m_callV (As := [.ref y0]) (rest := []) X hp (w_J2_add hV e17) q915 q314 q315 q138 q316 1 rfl ds_J2_add ⟨Nat.le_of_ble_eq_true rfl, Nat.le_of_ble_eq_true rfl⟩ 15 (T := TJ2) (N := 3) rfl (by decide) g16 hl.1 rfl (Nat.le_of_ble_eq_true rfl) dX6_ways_19 ⟨by show _ ≤ n' - nS; omega, by show _ ≤ z' - zS; omega⟩ (fun H locs hp => ?_)
  refine W.widen (k := n21 - nS) (n := z22 - zS) (by omega) (by omega) ?_
  exact b_X6_ways_22 hV hVs hs hVx X hX k2 hmk2 hk2 _ _ _ _ _ _ _ _ _ _ (by omega) (by omega) hp (lv_sub hl [0, 1] rfl) hF
def fb_X6_ways_15 (V : Nat → Nat) (k2 : mSh → mMm → Nat → Nat → Nat → Int32 → Option ((Nat ⊕ Nat) × mSh × mMm × Nat × Nat)) (S : mSh) (M : mMm) (n z : Nat) (x0 : Nat) (x1 : Int32) (y0 : Nat) (y1 : Nat) : Option ((Nat ⊕ Nat) × mSh × mMm × Nat × Nat) := ob (f_J2_init V S M n z y0) fun ⟨S13, M12, n14, z15⟩ => (fb_X6_ways_19 V k2 S13 M12 n14 z15 x0 x1 y0 y1)
theorem mn_X6_ways_15 {r : Nat ⊕ Nat} {S' : mSh} {M' : mMm} {n' z' : Nat} (k2 : mSh → mMm → Nat → Nat → Nat → Int32 → Option ((Nat ⊕ Nat) × mSh × mMm × Nat × Nat)) (hmk2 : ∀ {S : mSh} {M : mMm} {n z : Nat} {x0 : Nat} {x1 : Int32}, k2 S M n z x0 x1 = some (r, S', M', n', z') → n ≤ n' ∧ z ≤ z') : ∀ {S : mSh} {M : mMm} {n z : Nat} {x0 : Nat} {x1 : Int32} {y0 : Nat} {y1 : Nat}, fb_X6_ways_15 V k2 S M n z x0 x1 y0 y1 = some (r, S', M', n', z') → n ≤ n' ∧ z ≤ z' := by
  intro S M n z x0 x1 y0 y1 hF
  unfold fb_X6_ways_15 at hF
  obtain ⟨⟨S13, M12, n14, z15⟩, e10, hF⟩ := ob_s hF
  have hc := mn_J2_init e10
  have h9 := (mn_X6_ways_19 (V := V) k2 hmk2) hF
  exact ⟨by omega, by omega⟩
theorem b_X6_ways_15 {r : Nat ⊕ Nat} {S' : mSh} {M' : mMm} {n' z' : Nat} {nS zS : Nat} (hV : mV V n0 P) (hVs : mVs V n0 P) (hs : l.stackTraces = false) (hVx : mVx n0 P) (X : mCx D n0 P p m c cX6_ways 2 s args yX6_ways.cls meth (some (.object "java/util/ArrayList"))) (hX : ∀ x ∈ c.exceptionTable.toList, False) (k2 : mSh → mMm → Nat → Nat → Nat → Int32 → Option ((Nat ⊕ Nat) × mSh × mMm × Nat × Nat)) (hmk2 : ∀ {S : mSh} {M : mMm} {n z : Nat} {x0 : Nat} {x1 : Int32}, k2 S M n z x0 x1 = some (r, S', M', n', z') → n ≤ n' ∧ z ≤ z') (hk2 : ∀ (S : mSh) (M : mMm) (n z : Nat) (x0 : Nat) (x1 : Int32) (H : Heap) (locs : List Loc) (ls : Array Slot), nS ≤ n → zS ≤ z → mHp D n0 S M n s H locs → lv_has ls 2 [(0, .ref x0), (1, .int x1)] → k2 S M n z x0 x1 = some (r, S', M', n', z') → W p l e (Rm_X6_ways (n' - nS) (z' - zS)) s m args below meth c H locs (n - nS) (z - zS) (mMX below D n0 (moR r) S' M' n' args s (n' - nS) (z' - zS)) (F0 m 2 ls [])) : ∀ (S : mSh) (M : mMm) (n z : Nat) (x0 : Nat) (x1 : Int32) (y0 : Nat) (y1 : Nat) (H : Heap) (locs : List Loc) (ls : Array Slot), nS ≤ n → zS ≤ z → mHp D n0 S M n s H locs → lv_has ls 2 [(0, .ref x0), (1, .int x1)] → fb_X6_ways_15 V k2 S M n z x0 x1 y0 y1 = some (r, S', M', n', z') → W p l e (Rm_X6_ways (n' - nS) (z' - zS)) s m args below meth c H locs (n - nS) (z - zS) (mMX below D n0 (moR r) S' M' n' args s (n' - nS) (z' - zS)) (F0 m 15 ls [.ref y0, .ref y1]) := by
  have hx := X.1.1
  have hb := X.1.2.1
  have hown := X.1.2.2.2.1
  have hts := X.1.2.2.2.2
  intro S M n z x0 x1 y0 y1 H locs ls hn hz hp hl hF
  have hm0 := mn_X6_ways_15 _ hmk2 hF
  unfold fb_X6_ways_15 at hF
  refine lv_dup hx hb dX6_ways_15 rfl ?_
  obtain ⟨⟨S13, M12, n14, z15⟩, e10, hF⟩ := ob_s hF
  have hc := mn_J2_init e10
  have hm := (mn_X6_ways_19 (V := V) k2 hmk2) hF
  refine m_callI (As := []) (rest := [.ref y0, .ref y1]) X hp (w_J2_init hV e10) q584 q223 q138 q224 rfl 0 rfl ds_J2_init ⟨Nat.le_of_ble_eq_true rfl, Nat.le_of_ble_eq_true rfl⟩ hl.1 rfl (Nat.le_of_ble_eq_true rfl) dX6_ways_16 ⟨by show _ ≤ n' - nS; omega, by show _ ≤ z' - zS; omega⟩ (fun H locs hp => ?_)
  refine W.widen (k := n14 - nS) (n := z15 - zS) (by omega) (by omega) ?_
  exact b_X6_ways_19 hV hVs hs hVx X hX k2 hmk2 hk2 _ _ _ _ _ _ _ _ _ _ _ (by omega) (by omega) hp (lv_sub hl [0, 1] rfl) hF
def fb_X6_ways_115 (V : Nat → Nat) (k33 : mSh → mMm → Nat → Nat → Nat → Option ((Nat ⊕ Nat) × mSh × mMm × Nat × Nat)) (S : mSh) (M : mMm) (n z : Nat) (x0 : Nat) (y0 : Nat) (y1 : Int32) (y2 : Nat) : Option ((Nat ⊕ Nat) × mSh × mMm × Nat × Nat) := gd ((S y2).1 = 15) (ob (f_J2_set S M y2 y1 y0) fun ⟨v71, M72⟩ => ob (rI S M72 x0 7 8) fun v73 => ob (wF S M72 x0 7 8 (.int (v73 + (1 : Int32)))) fun M75 => (k33 S M75 n z x0))
theorem mn_X6_ways_115 {r : Nat ⊕ Nat} {S' : mSh} {M' : mMm} {n' z' : Nat} (k33 : mSh → mMm → Nat → Nat → Nat → Option ((Nat ⊕ Nat) × mSh × mMm × Nat × Nat)) (hmk33 : ∀ {S : mSh} {M : mMm} {n z : Nat} {x0 : Nat}, k33 S M n z x0 = some (r, S', M', n', z') → n ≤ n' ∧ z ≤ z') : ∀ {S : mSh} {M : mMm} {n z : Nat} {x0 : Nat} {y0 : Nat} {y1 : Int32} {y2 : Nat}, fb_X6_ways_115 V k33 S M n z x0 y0 y1 y2 = some (r, S', M', n', z') → n ≤ n' ∧ z ≤ z' := by
  intro S M n z x0 y0 y1 y2 hF
  unfold fb_X6_ways_115 at hF
  obtain ⟨g69, hF⟩ := gd_s hF
  obtain ⟨⟨v71, M72⟩, e70, hF⟩ := ob_s hF
  obtain ⟨v73, e74, hF⟩ := ob_s hF
  obtain ⟨M75, e76, hF⟩ := ob_s hF
  have h9 := hmk33 hF
  exact ⟨by omega, by omega⟩
theorem b_X6_ways_115 {r : Nat ⊕ Nat} {S' : mSh} {M' : mMm} {n' z' : Nat} {nS zS : Nat} (hV : mV V n0 P) (hVs : mVs V n0 P) (hs : l.stackTraces = false) (hVx : mVx n0 P) (X : mCx D n0 P p m c cX6_ways 2 s args yX6_ways.cls meth (some (.object "java/util/ArrayList"))) (hX : ∀ x ∈ c.exceptionTable.toList, False) (k33 : mSh → mMm → Nat → Nat → Nat → Option ((Nat ⊕ Nat) × mSh × mMm × Nat × Nat)) (hmk33 : ∀ {S : mSh} {M : mMm} {n z : Nat} {x0 : Nat}, k33 S M n z x0 = some (r, S', M', n', z') → n ≤ n' ∧ z ≤ z') (hk33 : ∀ (S : mSh) (M : mMm) (n z : Nat) (x0 : Nat) (H : Heap) (locs : List Loc) (ls : Array Slot), nS ≤ n → zS ≤ z → mHp D n0 S M n s H locs → lv_has ls 2 [(0, .ref x0)] → k33 S M n z x0 = some (r, S', M', n', z') → W p l e (Rm_X6_ways (n' - nS) (z' - zS)) s m args below meth c H locs (n - nS) (z - zS) (mMX below D n0 (moR r) S' M' n' args s (n' - nS) (z' - zS)) (F0 m 33 ls [])) : ∀ (S : mSh) (M : mMm) (n z : Nat) (x0 : Nat) (y0 : Nat) (y1 : Int32) (y2 : Nat) (H : Heap) (locs : List Loc) (ls : Array Slot), nS ≤ n → zS ≤ z → mHp D n0 S M n s H locs → lv_has ls 2 [(0, .ref x0)] → fb_X6_ways_115 V k33 S M n z x0 y0 y1 y2 = some (r, S', M', n', z') → W p l e (Rm_X6_ways (n' - nS) (z' - zS)) s m args below meth c H locs (n - nS) (z - zS) (mMX below D n0 (moR r) S' M' n' args s (n' - nS) (z' - zS)) (F0 m 115 ls [.ref y0, .int y1, .ref y2]) := by
  have hx := X.1.1
  have hb := X.1.2.1
  have hown := X.1.2.2.2.1
  have hts := X.1.2.2.2.2
  intro S M n z x0 y0 y1 y2 H locs ls hn hz hp hl hF
  have hm0 := mn_X6_ways_115 _ hmk33 hF
  unfold fb_X6_ways_115 at hF
  obtain ⟨g69, hF⟩ := gd_s hF
  obtain ⟨⟨v71, M72⟩, e70, hF⟩ := ob_s hF
  refine m_callV (As := [.int y1, .ref y0]) (rest := []) X hp (w_J2_set e70) q949 q950 q951 q138 q952 2 rfl ds_J2_set ⟨Nat.le_of_ble_eq_true rfl, Nat.le_of_ble_eq_true rfl⟩ 15 (T := TJ2) (N := 3) rfl (by decide) g69 hl.1 rfl (Nat.le_of_ble_eq_true rfl) dX6_ways_115 ⟨by show _ + 0 ≤ n' - nS; omega, by show _ + 0 ≤ z' - zS; omega⟩ (fun H locs hp => ?_)
  refine lv_pop hx hb dX6_ways_118 rfl ?_
  refine lv_aload_n hx hb dX6_ways_119 rfl (lv_at hl 0 rfl) ?_
  refine lv_dup hx hb dX6_ways_120 rfl ?_
  obtain ⟨v73, e74, hF⟩ := ob_s hF
  refine m_getI X hp e74 kX6 (Nat.le_of_ble_eq_true rfl) q594 dX6_ways_121 ?_
  refine lv_iconst (v := 1) hx hb dX6_ways_124 (by decide) ?_
  refine lv_iadd hx hb dX6_ways_125 ?_
  obtain ⟨M75, e76, hF⟩ := ob_s hF
  refine m_putW X hp e76 kX6 (Nat.le_of_ble_eq_true rfl) q594 rfl rfl rfl dX6_ways_126 (fun H locs hp => ?_)
  refine lv_goto (tgt := 33) hx hb dX6_ways_129 (by decide) ?_
  exact hk33 _ _ _ _ _ _ _ _ (by omega) (by omega) hp (lv_sub hl [0] rfl) hF
def fb_X6_ways_105 (V : Nat → Nat) (k33 : mSh → mMm → Nat → Nat → Nat → Option ((Nat ⊕ Nat) × mSh × mMm × Nat × Nat)) (S : mSh) (M : mMm) (n z : Nat) (x0 : Nat) (y0 : Int32) : Option ((Nat ⊕ Nat) × mSh × mMm × Nat × Nat) := ob (rR S M x0 7 2) fun v58 => ob (f_X6_steps V S M n z x0) fun ⟨o66, S63, M62, n64, z65⟩ => xk o66 S63 M62 n64 z65 fun v61 => (fb_X6_ways_115 V k33 S63 M62 n64 z65 x0 v61 y0 v58)
theorem mn_X6_ways_105 {r : Nat ⊕ Nat} {S' : mSh} {M' : mMm} {n' z' : Nat} (k33 : mSh → mMm → Nat → Nat → Nat → Option ((Nat ⊕ Nat) × mSh × mMm × Nat × Nat)) (hmk33 : ∀ {S : mSh} {M : mMm} {n z : Nat} {x0 : Nat}, k33 S M n z x0 = some (r, S', M', n', z') → n ≤ n' ∧ z ≤ z') : ∀ {S : mSh} {M : mMm} {n z : Nat} {x0 : Nat} {y0 : Int32}, fb_X6_ways_105 V k33 S M n z x0 y0 = some (r, S', M', n', z') → n ≤ n' ∧ z ≤ z' := by
  intro S M n z x0 y0 hF
  unfold fb_X6_ways_105 at hF
  obtain ⟨v58, e59, hF⟩ := ob_s hF
  obtain ⟨⟨o66, S63, M62, n64, z65⟩, e60, hF⟩ := ob_s hF
  have hc := mn_X6_steps e60
  rcases xk_s hF with ⟨v61, h67, hF⟩ | ⟨q68, h67, hF⟩
  · subst h67
    have h9 := (mn_X6_ways_115 (V := V) k33 hmk33) hF
    exact ⟨by omega, by omega⟩
  · subst h67
    cases hF
    exact ⟨by omega, by omega⟩
theorem b_X6_ways_105 {r : Nat ⊕ Nat} {S' : mSh} {M' : mMm} {n' z' : Nat} {nS zS : Nat} (hV : mV V n0 P) (hVs : mVs V n0 P) (hs : l.stackTraces = false) (hVx : mVx n0 P) (X : mCx D n0 P p m c cX6_ways 2 s args yX6_ways.cls meth (some (.object "java/util/ArrayList"))) (hX : ∀ x ∈ c.exceptionTable.toList, False) (k33 : mSh → mMm → Nat → Nat → Nat → Option ((Nat ⊕ Nat) × mSh × mMm × Nat × Nat)) (hmk33 : ∀ {S : mSh} {M : mMm} {n z : Nat} {x0 : Nat}, k33 S M n z x0 = some (r, S', M', n', z') → n ≤ n' ∧ z ≤ z') (hk33 : ∀ (S : mSh) (M : mMm) (n z : Nat) (x0 : Nat) (H : Heap) (locs : List Loc) (ls : Array Slot), nS ≤ n → zS ≤ z → mHp D n0 S M n s H locs → lv_has ls 2 [(0, .ref x0)] → k33 S M n z x0 = some (r, S', M', n', z') → W p l e (Rm_X6_ways (n' - nS) (z' - zS)) s m args below meth c H locs (n - nS) (z - zS) (mMX below D n0 (moR r) S' M' n' args s (n' - nS) (z' - zS)) (F0 m 33 ls [])) : ∀ (S : mSh) (M : mMm) (n z : Nat) (x0 : Nat) (y0 : Int32) (H : Heap) (locs : List Loc) (ls : Array Slot), nS ≤ n → zS ≤ z → mHp D n0 S M n s H locs → lv_has ls 2 [(0, .ref x0)] → fb_X6_ways_105 V k33 S M n z x0 y0 = some (r, S', M', n', z') → W p l e (Rm_X6_ways (n' - nS) (z' - zS)) s m args below meth c H locs (n - nS) (z - zS) (mMX below D n0 (moR r) S' M' n' args s (n' - nS) (z' - zS)) (F0 m 105 ls [.int y0]) := by
  have hx := X.1.1
  have hb := X.1.2.1
  have hown := X.1.2.2.2.1
  have hts := X.1.2.2.2.2
  intro S M n z x0 y0 H locs ls hn hz hp hl hF
  have hm0 := mn_X6_ways_105 _ hmk33 hF
  unfold fb_X6_ways_105 at hF
  refine lv_istore_n (lv' := [(1, .int y0), (0, .ref x0)]) hx hb dX6_ways_105 rfl hl (by decide) rfl (fun ls hl => ?_)
  refine lv_aload_n hx hb dX6_ways_106 rfl (lv_at hl 1 rfl) ?_
  obtain ⟨v58, e59, hF⟩ := ob_s hF
  refine m_getR X hp e59 kX6 (Nat.le_of_ble_eq_true rfl) q587 dX6_ways_107 ?_
  refine lv_iload_n hx hb dX6_ways_110 rfl (lv_at hl 0 rfl) ?_
  refine lv_aload_n hx hb dX6_ways_111 rfl (lv_at hl 1 rfl) ?_
  obtain ⟨⟨o66, S63, M62, n64, z65⟩, e60, hF⟩ := ob_s hF
  have hc := mn_X6_steps e60
  rcases xk_s hF with ⟨v61, h67, hF⟩ | ⟨q68, h67, hF⟩
  · subst h67
    have hm := (mn_X6_ways_115 (V := V) k33 hmk33) hF
    refine xm_callV (As := []) (rest := [.int y0, .ref v58]) X hp (w_X6_steps hV hVs hs hVx e60) q939 q941 qs27 q148 q942 0 rfl ds_X6_steps ⟨Nat.le_of_ble_eq_true rfl, Nat.le_of_ble_eq_true rfl⟩ 7 (T := TX6) (N := 10) rfl (by decide) (rR_s e59).1 hl.1 rfl (Nat.le_of_ble_eq_true rfl) dX6_ways_112 ⟨by show _ ≤ n' - nS; omega, by show _ ≤ z' - zS; omega⟩ (fun H locs hp => ?_)
    refine W.widen (k := n64 - nS) (n := z65 - zS) (by omega) (by omega) ?_
    exact b_X6_ways_115 hV hVs hs hVx X hX k33 hmk33 hk33 _ _ _ _ _ _ _ _ _ _ _ (by omega) (by omega) hp (lv_sub hl [1] rfl) hF
  · subst h67
    cases hF
    exact xm_callVT (As := []) (rest := [.int y0, .ref v58]) X hX hp (w_X6_steps hV hVs hs hVx e60) q939 q941 qs27 q148 q942 0 rfl ds_X6_steps ⟨Nat.le_of_ble_eq_true rfl, Nat.le_of_ble_eq_true rfl⟩ 7 (T := TX6) (N := 10) rfl (by decide) (rR_s e59).1 hl.1 rfl (Nat.le_of_ble_eq_true rfl) dX6_ways_112 ⟨by show _ ≤ n' - nS; omega, by show _ ≤ z' - zS; omega⟩ ⟨by omega, by omega⟩
def fb_X6_ways_33 (V : Nat → Nat) : Nat → mSh → mMm → Nat → Nat → Nat → Option ((Nat ⊕ Nat) × mSh × mMm × Nat × Nat)
  | 0, _, _, _, _, _ => none
  | t + 1, S, M, n, z, x0 => ob (rI S M x0 7 5) fun v25 => (if v25 = 0 then ob (rR S M x0 7 2) fun v28 => some (.inl v28, S, M, n, z) else ob (rI S M x0 7 5) fun v30 => (if v30 = (15 : Int32) then ob (rI S M x0 7 8) fun v33 => (if v33 = (16 : Int32) then ob (rI S M x0 7 4) fun v54 => some (.inr n, mSF S n, mMF M n (3 : Int32) v54, n + 1, z + 8) else ob (f_X6_next V S M x0) fun M38 => ob (rR S M38 x0 7 9) fun v39 => ob (rR S M38 v39 1 4) fun v41 => ob (rI S M38 v41 2 10) fun v43 => ob (f_X6_number V S M38 n z x0 (0 : Int32) (v43 - (1 : Int32))) fun ⟨o51, S48, M47, n49, z50⟩ => xk o51 S48 M47 n49 z50 fun v46 => (fb_X6_ways_105 V (fb_X6_ways_33 V t) S48 M47 n49 z50 x0 v46)) else ob (rI S M x0 7 4) fun v56 => some (.inr n, mSF S n, mMF M n (1 : Int32) v56, n + 1, z + 8)))
theorem mn_X6_ways_33 {r : Nat ⊕ Nat} {S' : mSh} {M' : mMm} {n' z' : Nat} : ∀ {t : Nat} {S : mSh} {M : mMm} {n z : Nat} {x0 : Nat}, fb_X6_ways_33 V t S M n z x0 = some (r, S', M', n', z') → n ≤ n' ∧ z ≤ z' := by
  intro t
  induction t with
  | zero =>
    intro S M n z x0 hF
    have hF : none = some (r, S', M', n', z') := hF
    cases hF
  | succ t ihm =>
    intro S M n z x0 hF
    rw [fb_X6_ways_33] at hF
    obtain ⟨v25, e26, hF⟩ := ob_s hF
    rcases Decidable.em (v25 = 0) with c27 | c27
    · have hF := if_p c27 hF
      obtain ⟨v28, e29, hF⟩ := ob_s hF
      cases hF
      exact ⟨Nat.le_refl _, Nat.le_refl _⟩
    · have hF := if_n c27 hF
      obtain ⟨v30, e31, hF⟩ := ob_s hF
      rcases Decidable.em (v30 = (15 : Int32)) with c32 | c32
      · have hF := if_p c32 hF
        obtain ⟨v33, e34, hF⟩ := ob_s hF
        rcases (Decidable.em (v33 = (16 : Int32))).symm with c35 | c35
        · have hF := if_n c35 hF
          obtain ⟨M38, e36, hF⟩ := ob_s hF
          obtain ⟨v39, e40, hF⟩ := ob_s hF
          obtain ⟨v41, e42, hF⟩ := ob_s hF
          obtain ⟨v43, e44, hF⟩ := ob_s hF
          obtain ⟨⟨o51, S48, M47, n49, z50⟩, e45, hF⟩ := ob_s hF
          have hc := mn_X6_number e45
          rcases xk_s hF with ⟨v46, h52, hF⟩ | ⟨q53, h52, hF⟩
          · subst h52
            have h9 := (mn_X6_ways_105 (V := V) (fb_X6_ways_33 V t) @ihm) hF
            exact ⟨by omega, by omega⟩
          · subst h52
            cases hF
            exact ⟨by omega, by omega⟩
        · have hF := if_p c35 hF
          obtain ⟨v54, e55, hF⟩ := ob_s hF
          cases hF
          exact ⟨by omega, by omega⟩
      · have hF := if_n c32 hF
        obtain ⟨v56, e57, hF⟩ := ob_s hF
        cases hF
        exact ⟨by omega, by omega⟩
theorem b_X6_ways_33 {r : Nat ⊕ Nat} {S' : mSh} {M' : mMm} {n' z' : Nat} {nS zS : Nat} (hV : mV V n0 P) (hVs : mVs V n0 P) (hs : l.stackTraces = false) (hVx : mVx n0 P) (X : mCx D n0 P p m c cX6_ways 2 s args yX6_ways.cls meth (some (.object "java/util/ArrayList"))) (hX : ∀ x ∈ c.exceptionTable.toList, False) : ∀ t : Nat, ∀ (S : mSh) (M : mMm) (n z : Nat) (x0 : Nat) (H : Heap) (locs : List Loc) (ls : Array Slot), nS ≤ n → zS ≤ z → mHp D n0 S M n s H locs → lv_has ls 2 [(0, .ref x0)] → fb_X6_ways_33 V t S M n z x0 = some (r, S', M', n', z') → W p l e (Rm_X6_ways (n' - nS) (z' - zS)) s m args below meth c H locs (n - nS) (z - zS) (mMX below D n0 (moR r) S' M' n' args s (n' - nS) (z' - zS)) (F0 m 33 ls []) := by
  have hx := X.1.1
  have hb := X.1.2.1
  have hown := X.1.2.2.2.1
  have hts := X.1.2.2.2.2
  intro t
  induction t with
  | zero =>
    intro S M n z x0 H locs ls hn hz hp hl hF
    have hF : none = some (r, S', M', n', z') := hF
    cases hF
  | succ t ih =>
    intro S M n z x0 H locs ls hn hz hp hl hF
    have ihm := @mn_X6_ways_33 V r S' M' n' z' t
    have hm0 := mn_X6_ways_33 hF
    rw [fb_X6_ways_33] at hF
    refine lv_aload_n hx hb dX6_ways_33 rfl (lv_at hl 0 rfl) ?_
    obtain ⟨v25, e26, hF⟩ := ob_s hF
    refine m_getI X hp e26 kX6 (Nat.le_of_ble_eq_true rfl) q590 dX6_ways_34 ?_
    refine lv_if_eq (tgt := 132) hx hb dX6_ways_37 (by decide) (fun c27 => ?_) (fun c27 => ?_)
    · have hF := if_p c27 hF
      refine lv_aload_n hx hb dX6_ways_132 rfl (lv_at hl 0 rfl) ?_
      obtain ⟨v28, e29, hF⟩ := ob_s hF
      refine m_getR X hp e29 kX6 (Nat.le_of_ble_eq_true rfl) q587 dX6_ways_133 ?_
      cases hF
      exact xm_ret (m_aret X hp (Or.inl ⟨_, rfl⟩) dX6_ways_136)
    · have hF := if_n c27 hF
      refine lv_aload_n hx hb dX6_ways_40 rfl (lv_at hl 0 rfl) ?_
      obtain ⟨v30, e31, hF⟩ := ob_s hF
      refine m_getI X hp e31 kX6 (Nat.le_of_ble_eq_true rfl) q590 dX6_ways_41 ?_
      refine lv_bipush (v := 15) hx hb dX6_ways_44 (by decide) ?_
      refine lv_icmp_eq (tgt := 62) hx hb dX6_ways_46 (by decide) (fun c32 => ?_) (fun c32 => ?_)
      · have hF := if_p c32 hF
        refine lv_aload_n hx hb dX6_ways_62 rfl (lv_at hl 0 rfl) ?_
        obtain ⟨v33, e34, hF⟩ := ob_s hF
        refine m_getI X hp e34 kX6 (Nat.le_of_ble_eq_true rfl) q594 dX6_ways_63 ?_
        refine lv_bipush (v := 16) hx hb dX6_ways_66 (by decide) ?_
        refine lv_icmp_ne (tgt := 84) hx hb dX6_ways_68 (by decide) (fun c35 => ?_) (fun c35 => ?_)
        · have hF := if_n c35 hF
          refine lv_aload_n hx hb dX6_ways_84 rfl (lv_at hl 0 rfl) ?_
          obtain ⟨M38, e36, hF⟩ := ob_s hF
          refine m_callV (As := []) (rest := []) X hp (w_X6_next hVs e36) q621 q623 qs5 q148 q624 0 rfl ds_X6_next ⟨Nat.le_of_ble_eq_true rfl, Nat.le_of_ble_eq_true rfl⟩ 7 (T := TX6) (N := 10) rfl (by decide) (rI_s e34).1 hl.1 rfl (Nat.le_of_ble_eq_true rfl) dX6_ways_85 ⟨by show _ + 0 ≤ n' - nS; omega, by show _ + 0 ≤ z' - zS; omega⟩ (fun H locs hp => ?_)
          refine lv_aload_n hx hb dX6_ways_88 rfl (lv_at hl 0 rfl) ?_
          refine lv_iconst (v := 0) hx hb dX6_ways_89 (by decide) ?_
          refine lv_aload_n hx hb dX6_ways_90 rfl (lv_at hl 0 rfl) ?_
          obtain ⟨v39, e40, hF⟩ := ob_s hF
          refine m_getR X hp e40 kX6 (Nat.le_of_ble_eq_true rfl) q595 dX6_ways_91 ?_
          obtain ⟨v41, e42, hF⟩ := ob_s hF
          refine m_getRN X hp e42 kX0 (Nat.le_of_ble_eq_true rfl) q464 dX6_ways_94 ?_
          obtain ⟨v43, e44, hF⟩ := ob_s hF
          refine m_getIN X hp e44 kX1 (Nat.le_of_ble_eq_true rfl) q397 dX6_ways_97 ?_
          refine lv_iconst (v := 1) hx hb dX6_ways_100 (by decide) ?_
          refine lv_isub hx hb dX6_ways_101 ?_
          obtain ⟨⟨o51, S48, M47, n49, z50⟩, e45, hF⟩ := ob_s hF
          have hc := mn_X6_number e45
          rcases xk_s hF with ⟨v46, h52, hF⟩ | ⟨q53, h52, hF⟩
          · subst h52
            have hm := (mn_X6_ways_105 (V := V) (fb_X6_ways_33 V t) @ihm) hF
            refine xm_callV (As := [.int (0 : Int32), .int (v43 - (1 : Int32))]) (rest := []) X hp (w_X6_number hV hVs hs hVx e45) q825 q827 qs20 q148 q828 2 rfl ds_X6_number ⟨Nat.le_of_ble_eq_true rfl, Nat.le_of_ble_eq_true rfl⟩ 7 (T := TX6) (N := 10) rfl (by decide) (rR_s e40).1 hl.1 rfl (Nat.le_of_ble_eq_true rfl) dX6_ways_102 ⟨by show _ ≤ n' - nS; omega, by show _ ≤ z' - zS; omega⟩ (fun H locs hp => ?_)
            refine W.widen (k := n49 - nS) (n := z50 - zS) (by omega) (by omega) ?_
            exact b_X6_ways_105 hV hVs hs hVx X hX (fb_X6_ways_33 V t) @ihm ih _ _ _ _ _ _ _ _ _ (by omega) (by omega) hp (lv_sub hl [0] rfl) hF
          · subst h52
            cases hF
            exact xm_callVT (As := [.int (0 : Int32), .int (v43 - (1 : Int32))]) (rest := []) X hX hp (w_X6_number hV hVs hs hVx e45) q825 q827 qs20 q148 q828 2 rfl ds_X6_number ⟨Nat.le_of_ble_eq_true rfl, Nat.le_of_ble_eq_true rfl⟩ 7 (T := TX6) (N := 10) rfl (by decide) (rR_s e40).1 hl.1 rfl (Nat.le_of_ble_eq_true rfl) dX6_ways_102 ⟨by show _ ≤ n' - nS; omega, by show _ ≤ z' - zS; omega⟩ ⟨by omega, by omega⟩
        · have hF := if_p c35 hF
          obtain ⟨v54, e55, hF⟩ := ob_s hF
          cases hF
          exact xm_throw (rest := []) (kd := 3) X hX hs hVx hp (lv_at hl 0 rfl) hl.1 (by decide) e55 dX6_ways_71 dX6_ways_74 dX6_ways_75 dX6_ways_76 dX6_ways_77 dX6_ways_80 dX6_ways_83 (Nat.le_of_ble_eq_true rfl) ⟨Nat.le_of_ble_eq_true rfl, Nat.le_of_ble_eq_true rfl⟩ ⟨by show _ ≤ n + 1 - nS; omega, by show _ ≤ z + 8 - zS; omega⟩ ⟨by omega, by omega⟩
      · have hF := if_n c32 hF
        obtain ⟨v56, e57, hF⟩ := ob_s hF
        cases hF
        exact xm_throw (rest := []) (kd := 1) X hX hs hVx hp (lv_at hl 0 rfl) hl.1 (by decide) e57 dX6_ways_49 dX6_ways_52 dX6_ways_53 dX6_ways_54 dX6_ways_55 dX6_ways_58 dX6_ways_61 (Nat.le_of_ble_eq_true rfl) ⟨Nat.le_of_ble_eq_true rfl, Nat.le_of_ble_eq_true rfl⟩ ⟨by show _ ≤ n + 1 - nS; omega, by show _ ≤ z + 8 - zS; omega⟩ ⟨by omega, by omega⟩
def fb_X6_ways_2 (V : Nat → Nat) : Nat → mSh → mMm → Nat → Nat → Nat → Int32 → Option ((Nat ⊕ Nat) × mSh × mMm × Nat × Nat)
  | 0, _, _, _, _, _, _ => none
  | t + 1, S, M, n, z, x0, x1 => (if (16 : Int32) ≤ x1 then gd ((S x0).1 = 7) (ob (f_X6_next V S M x0) fun M7 => (fb_X6_ways_33 V FU S M7 n z x0)) else ob (rR S M x0 7 2) fun v8 => (fb_X6_ways_15 V (fb_X6_ways_2 V t) (mS1 S n (15, 0)) (mM1 M n fun k => defaultValue (tyJ2 k)) (n + 1) (z + 3) x0 x1 n v8))
theorem mn_X6_ways_2 {r : Nat ⊕ Nat} {S' : mSh} {M' : mMm} {n' z' : Nat} : ∀ {t : Nat} {S : mSh} {M : mMm} {n z : Nat} {x0 : Nat} {x1 : Int32}, fb_X6_ways_2 V t S M n z x0 x1 = some (r, S', M', n', z') → n ≤ n' ∧ z ≤ z' := by
  intro t
  induction t with
  | zero =>
    intro S M n z x0 x1 hF
    have hF : none = some (r, S', M', n', z') := hF
    cases hF
  | succ t ihm =>
    intro S M n z x0 x1 hF
    rw [fb_X6_ways_2] at hF
    rcases Decidable.em ((16 : Int32) ≤ x1) with c3 | c3
    · have hF := if_p c3 hF
      obtain ⟨g4, hF⟩ := gd_s hF
      obtain ⟨M7, e5, hF⟩ := ob_s hF
      have h9 := (mn_X6_ways_33 (V := V)) hF
      exact ⟨by omega, by omega⟩
    · have hF := if_n c3 hF
      obtain ⟨v8, e9, hF⟩ := ob_s hF
      have h9 := (mn_X6_ways_15 (V := V) (fb_X6_ways_2 V t) @ihm) hF
      exact ⟨by omega, by omega⟩
theorem b_X6_ways_2 {r : Nat ⊕ Nat} {S' : mSh} {M' : mMm} {n' z' : Nat} {nS zS : Nat} (hV : mV V n0 P) (hVs : mVs V n0 P) (hs : l.stackTraces = false) (hVx : mVx n0 P) (X : mCx D n0 P p m c cX6_ways 2 s args yX6_ways.cls meth (some (.object "java/util/ArrayList"))) (hX : ∀ x ∈ c.exceptionTable.toList, False) : ∀ t : Nat, ∀ (S : mSh) (M : mMm) (n z : Nat) (x0 : Nat) (x1 : Int32) (H : Heap) (locs : List Loc) (ls : Array Slot), nS ≤ n → zS ≤ z → mHp D n0 S M n s H locs → lv_has ls 2 [(0, .ref x0), (1, .int x1)] → fb_X6_ways_2 V t S M n z x0 x1 = some (r, S', M', n', z') → W p l e (Rm_X6_ways (n' - nS) (z' - zS)) s m args below meth c H locs (n - nS) (z - zS) (mMX below D n0 (moR r) S' M' n' args s (n' - nS) (z' - zS)) (F0 m 2 ls []) := by
  have hx := X.1.1
  have hb := X.1.2.1
  have hown := X.1.2.2.2.1
  have hts := X.1.2.2.2.2
  intro t
  induction t with
  | zero =>
    intro S M n z x0 x1 H locs ls hn hz hp hl hF
    have hF : none = some (r, S', M', n', z') := hF
    cases hF
  | succ t ih =>
    intro S M n z x0 x1 H locs ls hn hz hp hl hF
    have ihm := @mn_X6_ways_2 V r S' M' n' z' t
    have hm0 := mn_X6_ways_2 hF
    rw [fb_X6_ways_2] at hF
    refine lv_iload_n hx hb dX6_ways_2 rfl (lv_at hl 1 rfl) ?_
    refine lv_bipush (v := 16) hx hb dX6_ways_3 (by decide) ?_
    refine lv_icmp_ge (tgt := 29) hx hb dX6_ways_5 (by decide) (fun c3 => ?_) (fun c3 => ?_)
    · have hF := if_p c3 hF
      refine lv_aload_n hx hb dX6_ways_29 rfl (lv_at hl 0 rfl) ?_
      obtain ⟨g4, hF⟩ := gd_s hF
      obtain ⟨M7, e5, hF⟩ := ob_s hF
      refine m_callV (As := []) (rest := []) X hp (w_X6_next hVs e5) q621 q623 qs5 q148 q624 0 rfl ds_X6_next ⟨Nat.le_of_ble_eq_true rfl, Nat.le_of_ble_eq_true rfl⟩ 7 (T := TX6) (N := 10) rfl (by decide) g4 hl.1 rfl (Nat.le_of_ble_eq_true rfl) dX6_ways_30 ⟨by show _ + 0 ≤ n' - nS; omega, by show _ + 0 ≤ z' - zS; omega⟩ (fun H locs hp => ?_)
      exact b_X6_ways_33 hV hVs hs hVx X hX _ _ _ _ _ _ _ _ _ (by omega) (by omega) hp (lv_sub hl [0] rfl) hF
    · have hF := if_n c3 hF
      refine lv_aload_n hx hb dX6_ways_8 rfl (lv_at hl 0 rfl) ?_
      obtain ⟨v8, e9, hF⟩ := ob_s hF
      refine m_getR X hp e9 kX6 (Nat.le_of_ble_eq_true rfl) q587 dX6_ways_9 ?_
      have hm := (mn_X6_ways_15 (V := V) (fb_X6_ways_2 V t) @ihm) hF
      refine m_new X hp kJ2 q583 q221 q138 (by show _ ≤ n' - nS; omega) (by show _ ≤ z' - zS; omega) dX6_ways_12 (fun H hp => ?_)
      refine W.widen (k := n + 1 - nS) (n := z + 3 - zS) (by omega) (by omega) ?_
      exact b_X6_ways_15 hV hVs hs hVx X hX (fb_X6_ways_2 V t) @ihm ih _ _ _ _ _ _ _ _ _ _ _ (by omega) (by omega) hp (lv_sub hl [0, 1] rfl) hF
def fb_X6_ways_0 (V : Nat → Nat) (S : mSh) (M : mMm) (n z : Nat) (x0 : Nat) : Option ((Nat ⊕ Nat) × mSh × mMm × Nat × Nat) := nm ((0 : Int32)) fun v1 => (fb_X6_ways_2 V FU S M n z x0 v1)
theorem mn_X6_ways_0 {r : Nat ⊕ Nat} {S' : mSh} {M' : mMm} {n' z' : Nat} : ∀ {S : mSh} {M : mMm} {n z : Nat} {x0 : Nat}, fb_X6_ways_0 V S M n z x0 = some (r, S', M', n', z') → n ≤ n' ∧ z ≤ z' := by
  intro S M n z x0 hF
  unfold fb_X6_ways_0 at hF
  have hF := nm_s hF rfl
  have h9 := (mn_X6_ways_2 (V := V)) hF
  exact ⟨by omega, by omega⟩
theorem b_X6_ways_0 {r : Nat ⊕ Nat} {S' : mSh} {M' : mMm} {n' z' : Nat} {nS zS : Nat} (hV : mV V n0 P) (hVs : mVs V n0 P) (hs : l.stackTraces = false) (hVx : mVx n0 P) (X : mCx D n0 P p m c cX6_ways 2 s args yX6_ways.cls meth (some (.object "java/util/ArrayList"))) (hX : ∀ x ∈ c.exceptionTable.toList, False) : ∀ (S : mSh) (M : mMm) (n z : Nat) (x0 : Nat) (H : Heap) (locs : List Loc) (ls : Array Slot), nS ≤ n → zS ≤ z → mHp D n0 S M n s H locs → lv_has ls 2 [(0, .ref x0)] → fb_X6_ways_0 V S M n z x0 = some (r, S', M', n', z') → W p l e (Rm_X6_ways (n' - nS) (z' - zS)) s m args below meth c H locs (n - nS) (z - zS) (mMX below D n0 (moR r) S' M' n' args s (n' - nS) (z' - zS)) (F0 m 0 ls []) := by
  have hx := X.1.1
  have hb := X.1.2.1
  have hown := X.1.2.2.2.1
  have hts := X.1.2.2.2.2
  intro S M n z x0 H locs ls hn hz hp hl hF
  have hm0 := mn_X6_ways_0 hF
  unfold fb_X6_ways_0 at hF
  refine lv_iconst (v := 0) hx hb dX6_ways_0 (by decide) ?_
  refine lv_topi (fun v1 ev2 => ?_)
  have hF := nm_s hF ev2
  refine lv_istore_n (lv' := [(1, .int v1), (0, .ref x0)]) hx hb dX6_ways_1 rfl hl (by decide) rfl (fun ls hl => ?_)
  exact b_X6_ways_2 hV hVs hs hVx X hX _ _ _ _ _ _ _ _ _ _ (by omega) (by omega) hp (lv_sub hl [1, 0] rfl) hF
def f_X6_ways (V : Nat → Nat) (S : mSh) (M : mMm) (n z : Nat) (x0 : Nat) : Option ((Nat ⊕ Nat) × mSh × mMm × Nat × Nat) := (fb_X6_ways_0 V S M n z x0)
theorem mn_X6_ways {x0 : Nat} {r : Nat ⊕ Nat} {S' : mSh} {M' : mMm} {n' z' : Nat} {S : mSh} {M : mMm} {n z : Nat} (hF : f_X6_ways V S M n z x0 = some (r, S', M', n', z')) : n ≤ n' ∧ z ≤ z' := by
  unfold f_X6_ways at hF
  exact mn_X6_ways_0 hF
theorem w_X6_ways {x0 : Nat} {r : Nat ⊕ Nat} {S' : mSh} {M' : mMm} {n' z' : Nat} {S : mSh} {M : mMm} {n z : Nat} (hV : mV V n0 P) (hVs : mVs V n0 P) (hs : l.stackTraces = false) (hVx : mVx n0 P) (hF : f_X6_ways V S M n z x0 = some (r, S', M', n', z')) : mXt l D n0 P yX6_ways cX6_ways 2 (some (.object "java/util/ArrayList")) 12 309 (n' - n) (z' - z) [.ref x0] S M n (moR r) S' M' n' := by
  refine m_ofX (by decide) (Nat.le_of_ble_eq_true rfl) (fun p e s m below meth c X hX hp ls hl => ?_)
  unfold f_X6_ways at hF
  refine W.widen (k := n - n) (n := z - z) (by omega) (by omega) ?_
  exact b_X6_ways_0 hV hVs hs hVx X hX _ _ _ _ _ _ _ _ (Nat.le_refl _) (Nat.le_refl _) hp hl hF
end
section
variable {l : Launch} {D : va_G} {n0 : Nat} {P : mP} {V : Nat → Nat} {p : Program} {e : Env} {s : State} {m : MethodId} {args : Array Value} {below : List Frame} {meth : Method} {c : Code}
abbrev Rm_X6_watches (mc ms : Nat) : Room := { frames := 10, cells := mc, slots := ms, locals := 267 }
def fb_X6_watches_127 (V : Nat → Nat) (k12 : mSh → mMm → Nat → Nat → Nat → Nat → Option ((Nat ⊕ Nat) × mSh × mMm × Nat × Nat)) (S : mSh) (M : mMm) (n z : Nat) (x0 : Nat) (x1 : Nat) (y0 : Int32) : Option ((Nat ⊕ Nat) × mSh × mMm × Nat × Nat) := (k12 S M n z x0 x1)
theorem mn_X6_watches_127 {r : Nat ⊕ Nat} {S' : mSh} {M' : mMm} {n' z' : Nat} (k12 : mSh → mMm → Nat → Nat → Nat → Nat → Option ((Nat ⊕ Nat) × mSh × mMm × Nat × Nat)) (hmk12 : ∀ {S : mSh} {M : mMm} {n z : Nat} {x0 : Nat} {x1 : Nat}, k12 S M n z x0 x1 = some (r, S', M', n', z') → n ≤ n' ∧ z ≤ z') : ∀ {S : mSh} {M : mMm} {n z : Nat} {x0 : Nat} {x1 : Nat} {y0 : Int32}, fb_X6_watches_127 V k12 S M n z x0 x1 y0 = some (r, S', M', n', z') → n ≤ n' ∧ z ≤ z' := by
  intro S M n z x0 x1 y0 hF
  unfold fb_X6_watches_127 at hF
  have h9 := hmk12 hF
  exact ⟨by omega, by omega⟩
theorem b_X6_watches_127 {r : Nat ⊕ Nat} {S' : mSh} {M' : mMm} {n' z' : Nat} {nS zS : Nat} (hV : mV V n0 P) (hVs : mVs V n0 P) (hs : l.stackTraces = false) (hVx : mVx n0 P) (X : mCx D n0 P p m c cX6_watches 4 s args yX6_watches.cls meth (some (.object "java/util/ArrayList"))) (hX : ∀ x ∈ c.exceptionTable.toList, False) (k12 : mSh → mMm → Nat → Nat → Nat → Nat → Option ((Nat ⊕ Nat) × mSh × mMm × Nat × Nat)) (hmk12 : ∀ {S : mSh} {M : mMm} {n z : Nat} {x0 : Nat} {x1 : Nat}, k12 S M n z x0 x1 = some (r, S', M', n', z') → n ≤ n' ∧ z ≤ z') (hk12 : ∀ (S : mSh) (M : mMm) (n z : Nat) (x0 : Nat) (x1 : Nat) (H : Heap) (locs : List Loc) (ls : Array Slot), nS ≤ n → zS ≤ z → mHp D n0 S M n s H locs → lv_has ls 4 [(0, .ref x0), (1, .ref x1)] → k12 S M n z x0 x1 = some (r, S', M', n', z') → W p l e (Rm_X6_watches (n' - nS) (z' - zS)) s m args below meth c H locs (n - nS) (z - zS) (mMX below D n0 (moR r) S' M' n' args s (n' - nS) (z' - zS)) (F0 m 12 ls [])) : ∀ (S : mSh) (M : mMm) (n z : Nat) (x0 : Nat) (x1 : Nat) (y0 : Int32) (H : Heap) (locs : List Loc) (ls : Array Slot), nS ≤ n → zS ≤ z → mHp D n0 S M n s H locs → lv_has ls 4 [(0, .ref x0), (1, .ref x1)] → fb_X6_watches_127 V k12 S M n z x0 x1 y0 = some (r, S', M', n', z') → W p l e (Rm_X6_watches (n' - nS) (z' - zS)) s m args below meth c H locs (n - nS) (z - zS) (mMX below D n0 (moR r) S' M' n' args s (n' - nS) (z' - zS)) (F0 m 127 ls [.int y0]) := by
  have hx := X.1.1
  have hb := X.1.2.1
  have hown := X.1.2.2.2.1
  have hts := X.1.2.2.2.2
  intro S M n z x0 x1 y0 H locs ls hn hz hp hl hF
  have hm0 := mn_X6_watches_127 _ hmk12 hF
  unfold fb_X6_watches_127 at hF
  refine lv_pop hx hb dX6_watches_127 rfl ?_
  refine lv_goto (tgt := 12) hx hb dX6_watches_128 (by decide) ?_
  exact hk12 _ _ _ _ _ _ _ _ _ (by omega) (by omega) hp (lv_sub hl [0, 1] rfl) hF
def fb_X6_watches_118 (V : Nat → Nat) (k12 : mSh → mMm → Nat → Nat → Nat → Nat → Option ((Nat ⊕ Nat) × mSh × mMm × Nat × Nat)) (S : mSh) (M : mMm) (n z : Nat) (x0 : Nat) (x1 : Nat) (x2 : Int32) (x3 : Int32) (y0 : Nat) (y1 : Nat) : Option ((Nat ⊕ Nat) × mSh × mMm × Nat × Nat) := ob (f_X14_init S M y0 x2 x3) fun M66 => gd ((S y1).1 = 15) (ob (f_J2_add V S M66 n z y1 y0) fun ⟨v69, S71, M70, n72, z73⟩ => (fb_X6_watches_127 V k12 S71 M70 n72 z73 x0 x1 v69))
theorem mn_X6_watches_118 {r : Nat ⊕ Nat} {S' : mSh} {M' : mMm} {n' z' : Nat} (k12 : mSh → mMm → Nat → Nat → Nat → Nat → Option ((Nat ⊕ Nat) × mSh × mMm × Nat × Nat)) (hmk12 : ∀ {S : mSh} {M : mMm} {n z : Nat} {x0 : Nat} {x1 : Nat}, k12 S M n z x0 x1 = some (r, S', M', n', z') → n ≤ n' ∧ z ≤ z') : ∀ {S : mSh} {M : mMm} {n z : Nat} {x0 : Nat} {x1 : Nat} {x2 : Int32} {x3 : Int32} {y0 : Nat} {y1 : Nat}, fb_X6_watches_118 V k12 S M n z x0 x1 x2 x3 y0 y1 = some (r, S', M', n', z') → n ≤ n' ∧ z ≤ z' := by
  intro S M n z x0 x1 x2 x3 y0 y1 hF
  unfold fb_X6_watches_118 at hF
  obtain ⟨M66, e64, hF⟩ := ob_s hF
  obtain ⟨g67, hF⟩ := gd_s hF
  obtain ⟨⟨v69, S71, M70, n72, z73⟩, e68, hF⟩ := ob_s hF
  have hc := mn_J2_add e68
  have h9 := (mn_X6_watches_127 (V := V) k12 hmk12) hF
  exact ⟨by omega, by omega⟩
theorem b_X6_watches_118 {r : Nat ⊕ Nat} {S' : mSh} {M' : mMm} {n' z' : Nat} {nS zS : Nat} (hV : mV V n0 P) (hVs : mVs V n0 P) (hs : l.stackTraces = false) (hVx : mVx n0 P) (X : mCx D n0 P p m c cX6_watches 4 s args yX6_watches.cls meth (some (.object "java/util/ArrayList"))) (hX : ∀ x ∈ c.exceptionTable.toList, False) (k12 : mSh → mMm → Nat → Nat → Nat → Nat → Option ((Nat ⊕ Nat) × mSh × mMm × Nat × Nat)) (hmk12 : ∀ {S : mSh} {M : mMm} {n z : Nat} {x0 : Nat} {x1 : Nat}, k12 S M n z x0 x1 = some (r, S', M', n', z') → n ≤ n' ∧ z ≤ z') (hk12 : ∀ (S : mSh) (M : mMm) (n z : Nat) (x0 : Nat) (x1 : Nat) (H : Heap) (locs : List Loc) (ls : Array Slot), nS ≤ n → zS ≤ z → mHp D n0 S M n s H locs → lv_has ls 4 [(0, .ref x0), (1, .ref x1)] → k12 S M n z x0 x1 = some (r, S', M', n', z') → W p l e (Rm_X6_watches (n' - nS) (z' - zS)) s m args below meth c H locs (n - nS) (z - zS) (mMX below D n0 (moR r) S' M' n' args s (n' - nS) (z' - zS)) (F0 m 12 ls [])) : ∀ (S : mSh) (M : mMm) (n z : Nat) (x0 : Nat) (x1 : Nat) (x2 : Int32) (x3 : Int32) (y0 : Nat) (y1 : Nat) (H : Heap) (locs : List Loc) (ls : Array Slot), nS ≤ n → zS ≤ z → mHp D n0 S M n s H locs → lv_has ls 4 [(0, .ref x0), (1, .ref x1), (2, .int x2), (3, .int x3)] → fb_X6_watches_118 V k12 S M n z x0 x1 x2 x3 y0 y1 = some (r, S', M', n', z') → W p l e (Rm_X6_watches (n' - nS) (z' - zS)) s m args below meth c H locs (n - nS) (z - zS) (mMX below D n0 (moR r) S' M' n' args s (n' - nS) (z' - zS)) (F0 m 118 ls [.ref y0, .ref y1]) := by
  have hx := X.1.1
  have hb := X.1.2.1
  have hown := X.1.2.2.2.1
  have hts := X.1.2.2.2.2
  intro S M n z x0 x1 x2 x3 y0 y1 H locs ls hn hz hp hl hF
  have hm0 := mn_X6_watches_118 _ hmk12 hF
  unfold fb_X6_watches_118 at hF
  refine lv_dup hx hb dX6_watches_118 rfl ?_
  refine lv_iload_n hx hb dX6_watches_119 rfl (lv_at hl 2 rfl) ?_
  refine lv_iload_n hx hb dX6_watches_120 rfl (lv_at hl 3 rfl) ?_
  obtain ⟨M66, e64, hF⟩ := ob_s hF
  refine m_callI (As := [.int x2, .int x3]) (rest := [.ref y0, .ref y1]) X hp (w_X14_init e64) q968 q969 q161 q970 rfl 2 rfl ds_X14_init ⟨Nat.le_of_ble_eq_true rfl, Nat.le_of_ble_eq_true rfl⟩ hl.1 rfl (Nat.le_of_ble_eq_true rfl) dX6_watches_121 ⟨by show _ + 0 ≤ n' - nS; omega, by show _ + 0 ≤ z' - zS; omega⟩ (fun H locs hp => ?_)
  obtain ⟨g67, hF⟩ := gd_s hF
  obtain ⟨⟨v69, S71, M70, n72, z73⟩, e68, hF⟩ := ob_s hF
  have hc := mn_J2_add e68
  have hm := (mn_X6_watches_127 (V := V) k12 hmk12) hF
  refine m_callV (As := [.ref y0]) (rest := []) X hp (w_J2_add hV e68) q915 q314 q315 q138 q316 1 rfl ds_J2_add ⟨Nat.le_of_ble_eq_true rfl, Nat.le_of_ble_eq_true rfl⟩ 15 (T := TJ2) (N := 3) rfl (by decide) g67 hl.1 rfl (Nat.le_of_ble_eq_true rfl) dX6_watches_124 ⟨by show _ ≤ n' - nS; omega, by show _ ≤ z' - zS; omega⟩ (fun H locs hp => ?_)
  refine W.widen (k := n72 - nS) (n := z73 - zS) (by omega) (by omega) ?_
  exact b_X6_watches_127 hV hVs hs hVx X hX k12 hmk12 hk12 _ _ _ _ _ _ _ _ _ _ (by omega) (by omega) hp (lv_sub hl [0, 1] rfl) hF
def fb_X6_watches_114 (V : Nat → Nat) (k12 : mSh → mMm → Nat → Nat → Nat → Nat → Option ((Nat ⊕ Nat) × mSh × mMm × Nat × Nat)) (S : mSh) (M : mMm) (n z : Nat) (x0 : Nat) (x1 : Nat) (x2 : Int32) (x3 : Int32) : Option ((Nat ⊕ Nat) × mSh × mMm × Nat × Nat) := (fb_X6_watches_118 V k12 (mS1 S n (14, 0)) (mM1 M n fun k => defaultValue (tyX14 k)) (n + 1) (z + 2) x0 x1 x2 x3 n x1)
theorem mn_X6_watches_114 {r : Nat ⊕ Nat} {S' : mSh} {M' : mMm} {n' z' : Nat} (k12 : mSh → mMm → Nat → Nat → Nat → Nat → Option ((Nat ⊕ Nat) × mSh × mMm × Nat × Nat)) (hmk12 : ∀ {S : mSh} {M : mMm} {n z : Nat} {x0 : Nat} {x1 : Nat}, k12 S M n z x0 x1 = some (r, S', M', n', z') → n ≤ n' ∧ z ≤ z') : ∀ {S : mSh} {M : mMm} {n z : Nat} {x0 : Nat} {x1 : Nat} {x2 : Int32} {x3 : Int32}, fb_X6_watches_114 V k12 S M n z x0 x1 x2 x3 = some (r, S', M', n', z') → n ≤ n' ∧ z ≤ z' := by
  intro S M n z x0 x1 x2 x3 hF
  unfold fb_X6_watches_114 at hF
  have h9 := (mn_X6_watches_118 (V := V) k12 hmk12) hF
  exact ⟨by omega, by omega⟩
theorem b_X6_watches_114 {r : Nat ⊕ Nat} {S' : mSh} {M' : mMm} {n' z' : Nat} {nS zS : Nat} (hV : mV V n0 P) (hVs : mVs V n0 P) (hs : l.stackTraces = false) (hVx : mVx n0 P) (X : mCx D n0 P p m c cX6_watches 4 s args yX6_watches.cls meth (some (.object "java/util/ArrayList"))) (hX : ∀ x ∈ c.exceptionTable.toList, False) (k12 : mSh → mMm → Nat → Nat → Nat → Nat → Option ((Nat ⊕ Nat) × mSh × mMm × Nat × Nat)) (hmk12 : ∀ {S : mSh} {M : mMm} {n z : Nat} {x0 : Nat} {x1 : Nat}, k12 S M n z x0 x1 = some (r, S', M', n', z') → n ≤ n' ∧ z ≤ z') (hk12 : ∀ (S : mSh) (M : mMm) (n z : Nat) (x0 : Nat) (x1 : Nat) (H : Heap) (locs : List Loc) (ls : Array Slot), nS ≤ n → zS ≤ z → mHp D n0 S M n s H locs → lv_has ls 4 [(0, .ref x0), (1, .ref x1)] → k12 S M n z x0 x1 = some (r, S', M', n', z') → W p l e (Rm_X6_watches (n' - nS) (z' - zS)) s m args below meth c H locs (n - nS) (z - zS) (mMX below D n0 (moR r) S' M' n' args s (n' - nS) (z' - zS)) (F0 m 12 ls [])) : ∀ (S : mSh) (M : mMm) (n z : Nat) (x0 : Nat) (x1 : Nat) (x2 : Int32) (x3 : Int32) (H : Heap) (locs : List Loc) (ls : Array Slot), nS ≤ n → zS ≤ z → mHp D n0 S M n s H locs → lv_has ls 4 [(0, .ref x0), (1, .ref x1), (2, .int x2), (3, .int x3)] → fb_X6_watches_114 V k12 S M n z x0 x1 x2 x3 = some (r, S', M', n', z') → W p l e (Rm_X6_watches (n' - nS) (z' - zS)) s m args below meth c H locs (n - nS) (z - zS) (mMX below D n0 (moR r) S' M' n' args s (n' - nS) (z' - zS)) (F0 m 114 ls []) := by
  have hx := X.1.1
  have hb := X.1.2.1
  have hown := X.1.2.2.2.1
  have hts := X.1.2.2.2.2
  intro S M n z x0 x1 x2 x3 H locs ls hn hz hp hl hF
  have hm0 := mn_X6_watches_114 _ hmk12 hF
  unfold fb_X6_watches_114 at hF
  refine lv_aload_n hx hb dX6_watches_114 rfl (lv_at hl 1 rfl) ?_
  have hm := (mn_X6_watches_118 (V := V) k12 hmk12) hF
  refine m_new X hp kX14 q966 q967 q161 (by show _ ≤ n' - nS; omega) (by show _ ≤ z' - zS; omega) dX6_watches_115 (fun H hp => ?_)
  refine W.widen (k := n + 1 - nS) (n := z + 2 - zS) (by omega) (by omega) ?_
  exact b_X6_watches_118 hV hVs hs hVx X hX k12 hmk12 hk12 _ _ _ _ _ _ _ _ _ _ _ _ _ (by omega) (by omega) hp (lv_sub hl [0, 1, 2, 3] rfl) hF
def fb_X6_watches_108 (V : Nat → Nat) (k12 : mSh → mMm → Nat → Nat → Nat → Nat → Option ((Nat ⊕ Nat) × mSh × mMm × Nat × Nat)) (S : mSh) (M : mMm) (n z : Nat) (x0 : Nat) (x1 : Nat) (x2 : Int32) (x3 : Int32) : Option ((Nat ⊕ Nat) × mSh × mMm × Nat × Nat) := gd ((S x0).1 = 7) (ob (f_X6_must V S M n z x0 (59 : Int32)) fun ⟨o61, S58, M57, n59, z60⟩ => xk o61 S58 M57 n59 z60 fun _ => (fb_X6_watches_114 V k12 S58 M57 n59 z60 x0 x1 x2 x3))
theorem mn_X6_watches_108 {r : Nat ⊕ Nat} {S' : mSh} {M' : mMm} {n' z' : Nat} (k12 : mSh → mMm → Nat → Nat → Nat → Nat → Option ((Nat ⊕ Nat) × mSh × mMm × Nat × Nat)) (hmk12 : ∀ {S : mSh} {M : mMm} {n z : Nat} {x0 : Nat} {x1 : Nat}, k12 S M n z x0 x1 = some (r, S', M', n', z') → n ≤ n' ∧ z ≤ z') : ∀ {S : mSh} {M : mMm} {n z : Nat} {x0 : Nat} {x1 : Nat} {x2 : Int32} {x3 : Int32}, fb_X6_watches_108 V k12 S M n z x0 x1 x2 x3 = some (r, S', M', n', z') → n ≤ n' ∧ z ≤ z' := by
  intro S M n z x0 x1 x2 x3 hF
  unfold fb_X6_watches_108 at hF
  obtain ⟨g54, hF⟩ := gd_s hF
  obtain ⟨⟨o61, S58, M57, n59, z60⟩, e55, hF⟩ := ob_s hF
  have hc := mn_X6_must e55
  rcases xk_s hF with ⟨v56, h62, hF⟩ | ⟨q63, h62, hF⟩
  · subst h62
    have h9 := (mn_X6_watches_114 (V := V) k12 hmk12) hF
    exact ⟨by omega, by omega⟩
  · subst h62
    cases hF
    exact ⟨by omega, by omega⟩
theorem b_X6_watches_108 {r : Nat ⊕ Nat} {S' : mSh} {M' : mMm} {n' z' : Nat} {nS zS : Nat} (hV : mV V n0 P) (hVs : mVs V n0 P) (hs : l.stackTraces = false) (hVx : mVx n0 P) (X : mCx D n0 P p m c cX6_watches 4 s args yX6_watches.cls meth (some (.object "java/util/ArrayList"))) (hX : ∀ x ∈ c.exceptionTable.toList, False) (k12 : mSh → mMm → Nat → Nat → Nat → Nat → Option ((Nat ⊕ Nat) × mSh × mMm × Nat × Nat)) (hmk12 : ∀ {S : mSh} {M : mMm} {n z : Nat} {x0 : Nat} {x1 : Nat}, k12 S M n z x0 x1 = some (r, S', M', n', z') → n ≤ n' ∧ z ≤ z') (hk12 : ∀ (S : mSh) (M : mMm) (n z : Nat) (x0 : Nat) (x1 : Nat) (H : Heap) (locs : List Loc) (ls : Array Slot), nS ≤ n → zS ≤ z → mHp D n0 S M n s H locs → lv_has ls 4 [(0, .ref x0), (1, .ref x1)] → k12 S M n z x0 x1 = some (r, S', M', n', z') → W p l e (Rm_X6_watches (n' - nS) (z' - zS)) s m args below meth c H locs (n - nS) (z - zS) (mMX below D n0 (moR r) S' M' n' args s (n' - nS) (z' - zS)) (F0 m 12 ls [])) : ∀ (S : mSh) (M : mMm) (n z : Nat) (x0 : Nat) (x1 : Nat) (x2 : Int32) (x3 : Int32) (H : Heap) (locs : List Loc) (ls : Array Slot), nS ≤ n → zS ≤ z → mHp D n0 S M n s H locs → lv_has ls 4 [(0, .ref x0), (1, .ref x1), (2, .int x2), (3, .int x3)] → fb_X6_watches_108 V k12 S M n z x0 x1 x2 x3 = some (r, S', M', n', z') → W p l e (Rm_X6_watches (n' - nS) (z' - zS)) s m args below meth c H locs (n - nS) (z - zS) (mMX below D n0 (moR r) S' M' n' args s (n' - nS) (z' - zS)) (F0 m 108 ls []) := by
  have hx := X.1.1
  have hb := X.1.2.1
  have hown := X.1.2.2.2.1
  have hts := X.1.2.2.2.2
  intro S M n z x0 x1 x2 x3 H locs ls hn hz hp hl hF
  have hm0 := mn_X6_watches_108 _ hmk12 hF
  unfold fb_X6_watches_108 at hF
  refine lv_aload_n hx hb dX6_watches_108 rfl (lv_at hl 0 rfl) ?_
  refine lv_bipush (v := 59) hx hb dX6_watches_109 (by decide) ?_
  obtain ⟨g54, hF⟩ := gd_s hF
  obtain ⟨⟨o61, S58, M57, n59, z60⟩, e55, hF⟩ := ob_s hF
  have hc := mn_X6_must e55
  rcases xk_s hF with ⟨v56, h62, hF⟩ | ⟨q63, h62, hF⟩
  · subst h62
    have hm := (mn_X6_watches_114 (V := V) k12 hmk12) hF
    refine xm_callV (As := [.int (59 : Int32)]) (rest := []) X hp (w_X6_must hV hVs hs hVx e55) q892 q894 qs25 q148 q895 1 rfl ds_X6_must ⟨Nat.le_of_ble_eq_true rfl, Nat.le_of_ble_eq_true rfl⟩ 7 (T := TX6) (N := 10) rfl (by decide) g54 hl.1 rfl (Nat.le_of_ble_eq_true rfl) dX6_watches_111 ⟨by show _ ≤ n' - nS; omega, by show _ ≤ z' - zS; omega⟩ (fun H locs hp => ?_)
    refine W.widen (k := n59 - nS) (n := z60 - zS) (by omega) (by omega) ?_
    exact b_X6_watches_114 hV hVs hs hVx X hX k12 hmk12 hk12 _ _ _ _ _ _ _ _ _ _ _ (by omega) (by omega) hp (lv_sub hl [0, 1, 2, 3] rfl) hF
  · subst h62
    cases hF
    exact xm_callVT (As := [.int (59 : Int32)]) (rest := []) X hX hp (w_X6_must hV hVs hs hVx e55) q892 q894 qs25 q148 q895 1 rfl ds_X6_must ⟨Nat.le_of_ble_eq_true rfl, Nat.le_of_ble_eq_true rfl⟩ 7 (T := TX6) (N := 10) rfl (by decide) g54 hl.1 rfl (Nat.le_of_ble_eq_true rfl) dX6_watches_111 ⟨by show _ ≤ n' - nS; omega, by show _ ≤ z' - zS; omega⟩ ⟨by omega, by omega⟩
def fb_X6_watches_107 (V : Nat → Nat) (k12 : mSh → mMm → Nat → Nat → Nat → Nat → Option ((Nat ⊕ Nat) × mSh × mMm × Nat × Nat)) (S : mSh) (M : mMm) (n z : Nat) (x0 : Nat) (x1 : Nat) (x2 : Int32) (y0 : Int32) : Option ((Nat ⊕ Nat) × mSh × mMm × Nat × Nat) := (fb_X6_watches_108 V k12 S M n z x0 x1 x2 y0)
theorem mn_X6_watches_107 {r : Nat ⊕ Nat} {S' : mSh} {M' : mMm} {n' z' : Nat} (k12 : mSh → mMm → Nat → Nat → Nat → Nat → Option ((Nat ⊕ Nat) × mSh × mMm × Nat × Nat)) (hmk12 : ∀ {S : mSh} {M : mMm} {n z : Nat} {x0 : Nat} {x1 : Nat}, k12 S M n z x0 x1 = some (r, S', M', n', z') → n ≤ n' ∧ z ≤ z') : ∀ {S : mSh} {M : mMm} {n z : Nat} {x0 : Nat} {x1 : Nat} {x2 : Int32} {y0 : Int32}, fb_X6_watches_107 V k12 S M n z x0 x1 x2 y0 = some (r, S', M', n', z') → n ≤ n' ∧ z ≤ z' := by
  intro S M n z x0 x1 x2 y0 hF
  unfold fb_X6_watches_107 at hF
  have h9 := (mn_X6_watches_108 (V := V) k12 hmk12) hF
  exact ⟨by omega, by omega⟩
theorem b_X6_watches_107 {r : Nat ⊕ Nat} {S' : mSh} {M' : mMm} {n' z' : Nat} {nS zS : Nat} (hV : mV V n0 P) (hVs : mVs V n0 P) (hs : l.stackTraces = false) (hVx : mVx n0 P) (X : mCx D n0 P p m c cX6_watches 4 s args yX6_watches.cls meth (some (.object "java/util/ArrayList"))) (hX : ∀ x ∈ c.exceptionTable.toList, False) (k12 : mSh → mMm → Nat → Nat → Nat → Nat → Option ((Nat ⊕ Nat) × mSh × mMm × Nat × Nat)) (hmk12 : ∀ {S : mSh} {M : mMm} {n z : Nat} {x0 : Nat} {x1 : Nat}, k12 S M n z x0 x1 = some (r, S', M', n', z') → n ≤ n' ∧ z ≤ z') (hk12 : ∀ (S : mSh) (M : mMm) (n z : Nat) (x0 : Nat) (x1 : Nat) (H : Heap) (locs : List Loc) (ls : Array Slot), nS ≤ n → zS ≤ z → mHp D n0 S M n s H locs → lv_has ls 4 [(0, .ref x0), (1, .ref x1)] → k12 S M n z x0 x1 = some (r, S', M', n', z') → W p l e (Rm_X6_watches (n' - nS) (z' - zS)) s m args below meth c H locs (n - nS) (z - zS) (mMX below D n0 (moR r) S' M' n' args s (n' - nS) (z' - zS)) (F0 m 12 ls [])) : ∀ (S : mSh) (M : mMm) (n z : Nat) (x0 : Nat) (x1 : Nat) (x2 : Int32) (y0 : Int32) (H : Heap) (locs : List Loc) (ls : Array Slot), nS ≤ n → zS ≤ z → mHp D n0 S M n s H locs → lv_has ls 4 [(0, .ref x0), (1, .ref x1), (2, .int x2)] → fb_X6_watches_107 V k12 S M n z x0 x1 x2 y0 = some (r, S', M', n', z') → W p l e (Rm_X6_watches (n' - nS) (z' - zS)) s m args below meth c H locs (n - nS) (z - zS) (mMX below D n0 (moR r) S' M' n' args s (n' - nS) (z' - zS)) (F0 m 107 ls [.int y0]) := by
  have hx := X.1.1
  have hb := X.1.2.1
  have hown := X.1.2.2.2.1
  have hts := X.1.2.2.2.2
  intro S M n z x0 x1 x2 y0 H locs ls hn hz hp hl hF
  have hm0 := mn_X6_watches_107 _ hmk12 hF
  unfold fb_X6_watches_107 at hF
  refine lv_istore_n (lv' := [(3, .int y0), (0, .ref x0), (1, .ref x1), (2, .int x2)]) hx hb dX6_watches_107 rfl hl (by decide) rfl (fun ls hl => ?_)
  exact b_X6_watches_108 hV hVs hs hVx X hX k12 hmk12 hk12 _ _ _ _ _ _ _ _ _ _ _ (by omega) (by omega) hp (lv_sub hl [1, 2, 3, 0] rfl) hF
def fb_X6_watches_100 (V : Nat → Nat) (k12 : mSh → mMm → Nat → Nat → Nat → Nat → Option ((Nat ⊕ Nat) × mSh × mMm × Nat × Nat)) (S : mSh) (M : mMm) (n z : Nat) (x0 : Nat) (x1 : Nat) (x2 : Int32) : Option ((Nat ⊕ Nat) × mSh × mMm × Nat × Nat) := gd ((S x0).1 = 7) (ob (f_X6_number V S M n z x0 (1 : Int32) (9 : Int32)) fun ⟨o81, S78, M77, n79, z80⟩ => xk o81 S78 M77 n79 z80 fun v76 => (fb_X6_watches_107 V k12 S78 M77 n79 z80 x0 x1 x2 v76))
theorem mn_X6_watches_100 {r : Nat ⊕ Nat} {S' : mSh} {M' : mMm} {n' z' : Nat} (k12 : mSh → mMm → Nat → Nat → Nat → Nat → Option ((Nat ⊕ Nat) × mSh × mMm × Nat × Nat)) (hmk12 : ∀ {S : mSh} {M : mMm} {n z : Nat} {x0 : Nat} {x1 : Nat}, k12 S M n z x0 x1 = some (r, S', M', n', z') → n ≤ n' ∧ z ≤ z') : ∀ {S : mSh} {M : mMm} {n z : Nat} {x0 : Nat} {x1 : Nat} {x2 : Int32}, fb_X6_watches_100 V k12 S M n z x0 x1 x2 = some (r, S', M', n', z') → n ≤ n' ∧ z ≤ z' := by
  intro S M n z x0 x1 x2 hF
  unfold fb_X6_watches_100 at hF
  obtain ⟨g74, hF⟩ := gd_s hF
  obtain ⟨⟨o81, S78, M77, n79, z80⟩, e75, hF⟩ := ob_s hF
  have hc := mn_X6_number e75
  rcases xk_s hF with ⟨v76, h82, hF⟩ | ⟨q83, h82, hF⟩
  · subst h82
    have h9 := (mn_X6_watches_107 (V := V) k12 hmk12) hF
    exact ⟨by omega, by omega⟩
  · subst h82
    cases hF
    exact ⟨by omega, by omega⟩
theorem b_X6_watches_100 {r : Nat ⊕ Nat} {S' : mSh} {M' : mMm} {n' z' : Nat} {nS zS : Nat} (hV : mV V n0 P) (hVs : mVs V n0 P) (hs : l.stackTraces = false) (hVx : mVx n0 P) (X : mCx D n0 P p m c cX6_watches 4 s args yX6_watches.cls meth (some (.object "java/util/ArrayList"))) (hX : ∀ x ∈ c.exceptionTable.toList, False) (k12 : mSh → mMm → Nat → Nat → Nat → Nat → Option ((Nat ⊕ Nat) × mSh × mMm × Nat × Nat)) (hmk12 : ∀ {S : mSh} {M : mMm} {n z : Nat} {x0 : Nat} {x1 : Nat}, k12 S M n z x0 x1 = some (r, S', M', n', z') → n ≤ n' ∧ z ≤ z') (hk12 : ∀ (S : mSh) (M : mMm) (n z : Nat) (x0 : Nat) (x1 : Nat) (H : Heap) (locs : List Loc) (ls : Array Slot), nS ≤ n → zS ≤ z → mHp D n0 S M n s H locs → lv_has ls 4 [(0, .ref x0), (1, .ref x1)] → k12 S M n z x0 x1 = some (r, S', M', n', z') → W p l e (Rm_X6_watches (n' - nS) (z' - zS)) s m args below meth c H locs (n - nS) (z - zS) (mMX below D n0 (moR r) S' M' n' args s (n' - nS) (z' - zS)) (F0 m 12 ls [])) : ∀ (S : mSh) (M : mMm) (n z : Nat) (x0 : Nat) (x1 : Nat) (x2 : Int32) (H : Heap) (locs : List Loc) (ls : Array Slot), nS ≤ n → zS ≤ z → mHp D n0 S M n s H locs → lv_has ls 4 [(0, .ref x0), (1, .ref x1), (2, .int x2)] → fb_X6_watches_100 V k12 S M n z x0 x1 x2 = some (r, S', M', n', z') → W p l e (Rm_X6_watches (n' - nS) (z' - zS)) s m args below meth c H locs (n - nS) (z - zS) (mMX below D n0 (moR r) S' M' n' args s (n' - nS) (z' - zS)) (F0 m 100 ls []) := by
  have hx := X.1.1
  have hb := X.1.2.1
  have hown := X.1.2.2.2.1
  have hts := X.1.2.2.2.2
  intro S M n z x0 x1 x2 H locs ls hn hz hp hl hF
  have hm0 := mn_X6_watches_100 _ hmk12 hF
  unfold fb_X6_watches_100 at hF
  refine lv_aload_n hx hb dX6_watches_100 rfl (lv_at hl 0 rfl) ?_
  refine lv_iconst (v := 1) hx hb dX6_watches_101 (by decide) ?_
  refine lv_bipush (v := 9) hx hb dX6_watches_102 (by decide) ?_
  obtain ⟨g74, hF⟩ := gd_s hF
  obtain ⟨⟨o81, S78, M77, n79, z80⟩, e75, hF⟩ := ob_s hF
  have hc := mn_X6_number e75
  rcases xk_s hF with ⟨v76, h82, hF⟩ | ⟨q83, h82, hF⟩
  · subst h82
    have hm := (mn_X6_watches_107 (V := V) k12 hmk12) hF
    refine xm_callV (As := [.int (1 : Int32), .int (9 : Int32)]) (rest := []) X hp (w_X6_number hV hVs hs hVx e75) q825 q827 qs20 q148 q828 2 rfl ds_X6_number ⟨Nat.le_of_ble_eq_true rfl, Nat.le_of_ble_eq_true rfl⟩ 7 (T := TX6) (N := 10) rfl (by decide) g74 hl.1 rfl (Nat.le_of_ble_eq_true rfl) dX6_watches_104 ⟨by show _ ≤ n' - nS; omega, by show _ ≤ z' - zS; omega⟩ (fun H locs hp => ?_)
    refine W.widen (k := n79 - nS) (n := z80 - zS) (by omega) (by omega) ?_
    exact b_X6_watches_107 hV hVs hs hVx X hX k12 hmk12 hk12 _ _ _ _ _ _ _ _ _ _ _ (by omega) (by omega) hp (lv_sub hl [0, 1, 2] rfl) hF
  · subst h82
    cases hF
    exact xm_callVT (As := [.int (1 : Int32), .int (9 : Int32)]) (rest := []) X hX hp (w_X6_number hV hVs hs hVx e75) q825 q827 qs20 q148 q828 2 rfl ds_X6_number ⟨Nat.le_of_ble_eq_true rfl, Nat.le_of_ble_eq_true rfl⟩ 7 (T := TX6) (N := 10) rfl (by decide) g74 hl.1 rfl (Nat.le_of_ble_eq_true rfl) dX6_watches_104 ⟨by show _ ≤ n' - nS; omega, by show _ ≤ z' - zS; omega⟩ ⟨by omega, by omega⟩
def fb_X6_watches_75 (V : Nat → Nat) (k12 : mSh → mMm → Nat → Nat → Nat → Nat → Option ((Nat ⊕ Nat) × mSh × mMm × Nat × Nat)) (S : mSh) (M : mMm) (n z : Nat) (x0 : Nat) (x1 : Nat) (y0 : Int32) : Option ((Nat ⊕ Nat) × mSh × mMm × Nat × Nat) := nm ((0 : Int32)) fun v37 => ob (rI S M x0 7 5) fun v39 => (if v39 = (23 : Int32) then ob (f_X6_next V S M x0) fun M53 => (fb_X6_watches_108 V k12 S M53 n z x0 x1 y0 v37) else ob (f_X6_must V S M n z x0 (22 : Int32)) fun ⟨o48, S45, M44, n46, z47⟩ => xk o48 S45 M44 n46 z47 fun _ => (fb_X6_watches_100 V k12 S45 M44 n46 z47 x0 x1 y0))
theorem mn_X6_watches_75 {r : Nat ⊕ Nat} {S' : mSh} {M' : mMm} {n' z' : Nat} (k12 : mSh → mMm → Nat → Nat → Nat → Nat → Option ((Nat ⊕ Nat) × mSh × mMm × Nat × Nat)) (hmk12 : ∀ {S : mSh} {M : mMm} {n z : Nat} {x0 : Nat} {x1 : Nat}, k12 S M n z x0 x1 = some (r, S', M', n', z') → n ≤ n' ∧ z ≤ z') : ∀ {S : mSh} {M : mMm} {n z : Nat} {x0 : Nat} {x1 : Nat} {y0 : Int32}, fb_X6_watches_75 V k12 S M n z x0 x1 y0 = some (r, S', M', n', z') → n ≤ n' ∧ z ≤ z' := by
  intro S M n z x0 x1 y0 hF
  unfold fb_X6_watches_75 at hF
  have hF := nm_s hF rfl
  obtain ⟨v39, e40, hF⟩ := ob_s hF
  rcases (Decidable.em (v39 = (23 : Int32))).symm with c41 | c41
  · have hF := if_n c41 hF
    obtain ⟨⟨o48, S45, M44, n46, z47⟩, e42, hF⟩ := ob_s hF
    have hc := mn_X6_must e42
    rcases xk_s hF with ⟨v43, h49, hF⟩ | ⟨q50, h49, hF⟩
    · subst h49
      have h9 := (mn_X6_watches_100 (V := V) k12 hmk12) hF
      exact ⟨by omega, by omega⟩
    · subst h49
      cases hF
      exact ⟨by omega, by omega⟩
  · have hF := if_p c41 hF
    obtain ⟨M53, e51, hF⟩ := ob_s hF
    have h9 := (mn_X6_watches_108 (V := V) k12 hmk12) hF
    exact ⟨by omega, by omega⟩
theorem b_X6_watches_75 {r : Nat ⊕ Nat} {S' : mSh} {M' : mMm} {n' z' : Nat} {nS zS : Nat} (hV : mV V n0 P) (hVs : mVs V n0 P) (hs : l.stackTraces = false) (hVx : mVx n0 P) (X : mCx D n0 P p m c cX6_watches 4 s args yX6_watches.cls meth (some (.object "java/util/ArrayList"))) (hX : ∀ x ∈ c.exceptionTable.toList, False) (k12 : mSh → mMm → Nat → Nat → Nat → Nat → Option ((Nat ⊕ Nat) × mSh × mMm × Nat × Nat)) (hmk12 : ∀ {S : mSh} {M : mMm} {n z : Nat} {x0 : Nat} {x1 : Nat}, k12 S M n z x0 x1 = some (r, S', M', n', z') → n ≤ n' ∧ z ≤ z') (hk12 : ∀ (S : mSh) (M : mMm) (n z : Nat) (x0 : Nat) (x1 : Nat) (H : Heap) (locs : List Loc) (ls : Array Slot), nS ≤ n → zS ≤ z → mHp D n0 S M n s H locs → lv_has ls 4 [(0, .ref x0), (1, .ref x1)] → k12 S M n z x0 x1 = some (r, S', M', n', z') → W p l e (Rm_X6_watches (n' - nS) (z' - zS)) s m args below meth c H locs (n - nS) (z - zS) (mMX below D n0 (moR r) S' M' n' args s (n' - nS) (z' - zS)) (F0 m 12 ls [])) : ∀ (S : mSh) (M : mMm) (n z : Nat) (x0 : Nat) (x1 : Nat) (y0 : Int32) (H : Heap) (locs : List Loc) (ls : Array Slot), nS ≤ n → zS ≤ z → mHp D n0 S M n s H locs → lv_has ls 4 [(0, .ref x0), (1, .ref x1)] → fb_X6_watches_75 V k12 S M n z x0 x1 y0 = some (r, S', M', n', z') → W p l e (Rm_X6_watches (n' - nS) (z' - zS)) s m args below meth c H locs (n - nS) (z - zS) (mMX below D n0 (moR r) S' M' n' args s (n' - nS) (z' - zS)) (F0 m 75 ls [.int y0]) := by
  have hx := X.1.1
  have hb := X.1.2.1
  have hown := X.1.2.2.2.1
  have hts := X.1.2.2.2.2
  intro S M n z x0 x1 y0 H locs ls hn hz hp hl hF
  have hm0 := mn_X6_watches_75 _ hmk12 hF
  unfold fb_X6_watches_75 at hF
  refine lv_istore_n (lv' := [(2, .int y0), (0, .ref x0), (1, .ref x1)]) hx hb dX6_watches_75 rfl hl (by decide) rfl (fun ls hl => ?_)
  refine lv_iconst (v := 0) hx hb dX6_watches_76 (by decide) ?_
  refine lv_topi (fun v37 ev38 => ?_)
  have hF := nm_s hF ev38
  refine lv_istore_n (lv' := [(3, .int v37), (2, .int y0), (0, .ref x0), (1, .ref x1)]) hx hb dX6_watches_77 rfl hl (by decide) rfl (fun ls hl => ?_)
  refine lv_aload_n hx hb dX6_watches_78 rfl (lv_at hl 2 rfl) ?_
  obtain ⟨v39, e40, hF⟩ := ob_s hF
  refine m_getI X hp e40 kX6 (Nat.le_of_ble_eq_true rfl) q590 dX6_watches_79 ?_
  refine lv_bipush (v := 23) hx hb dX6_watches_82 (by decide) ?_
  refine lv_icmp_ne (tgt := 94) hx hb dX6_watches_84 (by decide) (fun c41 => ?_) (fun c41 => ?_)
  · have hF := if_n c41 hF
    refine lv_aload_n hx hb dX6_watches_94 rfl (lv_at hl 2 rfl) ?_
    refine lv_bipush (v := 22) hx hb dX6_watches_95 (by decide) ?_
    obtain ⟨⟨o48, S45, M44, n46, z47⟩, e42, hF⟩ := ob_s hF
    have hc := mn_X6_must e42
    rcases xk_s hF with ⟨v43, h49, hF⟩ | ⟨q50, h49, hF⟩
    · subst h49
      have hm := (mn_X6_watches_100 (V := V) k12 hmk12) hF
      refine xm_callV (As := [.int (22 : Int32)]) (rest := []) X hp (w_X6_must hV hVs hs hVx e42) q892 q894 qs25 q148 q895 1 rfl ds_X6_must ⟨Nat.le_of_ble_eq_true rfl, Nat.le_of_ble_eq_true rfl⟩ 7 (T := TX6) (N := 10) rfl (by decide) (rI_s e40).1 hl.1 rfl (Nat.le_of_ble_eq_true rfl) dX6_watches_97 ⟨by show _ ≤ n' - nS; omega, by show _ ≤ z' - zS; omega⟩ (fun H locs hp => ?_)
      refine W.widen (k := n46 - nS) (n := z47 - zS) (by omega) (by omega) ?_
      exact b_X6_watches_100 hV hVs hs hVx X hX k12 hmk12 hk12 _ _ _ _ _ _ _ _ _ _ (by omega) (by omega) hp (lv_sub hl [2, 3, 1] rfl) hF
    · subst h49
      cases hF
      exact xm_callVT (As := [.int (22 : Int32)]) (rest := []) X hX hp (w_X6_must hV hVs hs hVx e42) q892 q894 qs25 q148 q895 1 rfl ds_X6_must ⟨Nat.le_of_ble_eq_true rfl, Nat.le_of_ble_eq_true rfl⟩ 7 (T := TX6) (N := 10) rfl (by decide) (rI_s e40).1 hl.1 rfl (Nat.le_of_ble_eq_true rfl) dX6_watches_97 ⟨by show _ ≤ n' - nS; omega, by show _ ≤ z' - zS; omega⟩ ⟨by omega, by omega⟩
  · have hF := if_p c41 hF
    refine lv_aload_n hx hb dX6_watches_87 rfl (lv_at hl 2 rfl) ?_
    obtain ⟨M53, e51, hF⟩ := ob_s hF
    refine m_callV (As := []) (rest := []) X hp (w_X6_next hVs e51) q621 q623 qs5 q148 q624 0 rfl ds_X6_next ⟨Nat.le_of_ble_eq_true rfl, Nat.le_of_ble_eq_true rfl⟩ 7 (T := TX6) (N := 10) rfl (by decide) (rI_s e40).1 hl.1 rfl (Nat.le_of_ble_eq_true rfl) dX6_watches_88 ⟨by show _ + 0 ≤ n' - nS; omega, by show _ + 0 ≤ z' - zS; omega⟩ (fun H locs hp => ?_)
    refine lv_goto (tgt := 108) hx hb dX6_watches_91 (by decide) ?_
    exact b_X6_watches_108 hV hVs hs hVx X hX k12 hmk12 hk12 _ _ _ _ _ _ _ _ _ _ _ (by omega) (by omega) hp (lv_sub hl [2, 3, 1, 0] rfl) hF
def fb_X6_watches_12 (V : Nat → Nat) : Nat → mSh → mMm → Nat → Nat → Nat → Nat → Option ((Nat ⊕ Nat) × mSh × mMm × Nat × Nat)
  | 0, _, _, _, _, _, _ => none
  | t + 1, S, M, n, z, x0, x1 => ob (rI S M x0 7 5) fun v11 => (if v11 = 0 then some (.inl x1, S, M, n, z) else ob (rI S M x0 7 5) fun v14 => (if v14 = (21 : Int32) then gd ((S x1).1 = 15) (ob (f_J2_size S M x1) fun v19 => (if v19 = (16 : Int32) then ob (rI S M x0 7 4) fun v33 => some (.inr n, mSF S n, mMF M n (3 : Int32) v33, n + 1, z + 8) else ob (f_X6_next V S M x0) fun M23 => ob (f_X6_number V S M23 n z x0 (0 : Int32) (999 : Int32)) fun ⟨o30, S27, M26, n28, z29⟩ => xk o30 S27 M26 n28 z29 fun v25 => (fb_X6_watches_75 V (fb_X6_watches_12 V t) S27 M26 n28 z29 x0 x1 v25))) else ob (rI S M x0 7 4) fun v35 => some (.inr n, mSF S n, mMF M n (1 : Int32) v35, n + 1, z + 8)))
theorem mn_X6_watches_12 {r : Nat ⊕ Nat} {S' : mSh} {M' : mMm} {n' z' : Nat} : ∀ {t : Nat} {S : mSh} {M : mMm} {n z : Nat} {x0 : Nat} {x1 : Nat}, fb_X6_watches_12 V t S M n z x0 x1 = some (r, S', M', n', z') → n ≤ n' ∧ z ≤ z' := by
  intro t
  induction t with
  | zero =>
    intro S M n z x0 x1 hF
    have hF : none = some (r, S', M', n', z') := hF
    cases hF
  | succ t ihm =>
    intro S M n z x0 x1 hF
    rw [fb_X6_watches_12] at hF
    obtain ⟨v11, e12, hF⟩ := ob_s hF
    rcases Decidable.em (v11 = 0) with c13 | c13
    · have hF := if_p c13 hF
      cases hF
      exact ⟨Nat.le_refl _, Nat.le_refl _⟩
    · have hF := if_n c13 hF
      obtain ⟨v14, e15, hF⟩ := ob_s hF
      rcases Decidable.em (v14 = (21 : Int32)) with c16 | c16
      · have hF := if_p c16 hF
        obtain ⟨g17, hF⟩ := gd_s hF
        obtain ⟨v19, e18, hF⟩ := ob_s hF
        rcases (Decidable.em (v19 = (16 : Int32))).symm with c20 | c20
        · have hF := if_n c20 hF
          obtain ⟨M23, e21, hF⟩ := ob_s hF
          obtain ⟨⟨o30, S27, M26, n28, z29⟩, e24, hF⟩ := ob_s hF
          have hc := mn_X6_number e24
          rcases xk_s hF with ⟨v25, h31, hF⟩ | ⟨q32, h31, hF⟩
          · subst h31
            have h9 := (mn_X6_watches_75 (V := V) (fb_X6_watches_12 V t) @ihm) hF
            exact ⟨by omega, by omega⟩
          · subst h31
            cases hF
            exact ⟨by omega, by omega⟩
        · have hF := if_p c20 hF
          obtain ⟨v33, e34, hF⟩ := ob_s hF
          cases hF
          exact ⟨by omega, by omega⟩
      · have hF := if_n c16 hF
        obtain ⟨v35, e36, hF⟩ := ob_s hF
        cases hF
        exact ⟨by omega, by omega⟩
theorem b_X6_watches_12 {r : Nat ⊕ Nat} {S' : mSh} {M' : mMm} {n' z' : Nat} {nS zS : Nat} (hV : mV V n0 P) (hVs : mVs V n0 P) (hs : l.stackTraces = false) (hVx : mVx n0 P) (X : mCx D n0 P p m c cX6_watches 4 s args yX6_watches.cls meth (some (.object "java/util/ArrayList"))) (hX : ∀ x ∈ c.exceptionTable.toList, False) : ∀ t : Nat, ∀ (S : mSh) (M : mMm) (n z : Nat) (x0 : Nat) (x1 : Nat) (H : Heap) (locs : List Loc) (ls : Array Slot), nS ≤ n → zS ≤ z → mHp D n0 S M n s H locs → lv_has ls 4 [(0, .ref x0), (1, .ref x1)] → fb_X6_watches_12 V t S M n z x0 x1 = some (r, S', M', n', z') → W p l e (Rm_X6_watches (n' - nS) (z' - zS)) s m args below meth c H locs (n - nS) (z - zS) (mMX below D n0 (moR r) S' M' n' args s (n' - nS) (z' - zS)) (F0 m 12 ls []) := by
  have hx := X.1.1
  have hb := X.1.2.1
  have hown := X.1.2.2.2.1
  have hts := X.1.2.2.2.2
  intro t
  induction t with
  | zero =>
    intro S M n z x0 x1 H locs ls hn hz hp hl hF
    have hF : none = some (r, S', M', n', z') := hF
    cases hF
  | succ t ih =>
    intro S M n z x0 x1 H locs ls hn hz hp hl hF
    have ihm := @mn_X6_watches_12 V r S' M' n' z' t
    have hm0 := mn_X6_watches_12 hF
    rw [fb_X6_watches_12] at hF
    refine lv_aload_n hx hb dX6_watches_12 rfl (lv_at hl 0 rfl) ?_
    obtain ⟨v11, e12, hF⟩ := ob_s hF
    refine m_getI X hp e12 kX6 (Nat.le_of_ble_eq_true rfl) q590 dX6_watches_13 ?_
    refine lv_if_eq (tgt := 131) hx hb dX6_watches_16 (by decide) (fun c13 => ?_) (fun c13 => ?_)
    · have hF := if_p c13 hF
      refine lv_aload_n hx hb dX6_watches_131 rfl (lv_at hl 1 rfl) ?_
      cases hF
      exact xm_ret (m_aret X hp (Or.inl ⟨_, rfl⟩) dX6_watches_132)
    · have hF := if_n c13 hF
      refine lv_aload_n hx hb dX6_watches_19 rfl (lv_at hl 0 rfl) ?_
      obtain ⟨v14, e15, hF⟩ := ob_s hF
      refine m_getI X hp e15 kX6 (Nat.le_of_ble_eq_true rfl) q590 dX6_watches_20 ?_
      refine lv_bipush (v := 21) hx hb dX6_watches_23 (by decide) ?_
      refine lv_icmp_eq (tgt := 41) hx hb dX6_watches_25 (by decide) (fun c16 => ?_) (fun c16 => ?_)
      · have hF := if_p c16 hF
        refine lv_aload_n hx hb dX6_watches_41 rfl (lv_at hl 1 rfl) ?_
        obtain ⟨g17, hF⟩ := gd_s hF
        obtain ⟨v19, e18, hF⟩ := ob_s hF
        refine m_callV (As := []) (rest := []) X hp (w_J2_size e18) q807 q808 q809 q138 q810 0 rfl ds_J2_size ⟨Nat.le_of_ble_eq_true rfl, Nat.le_of_ble_eq_true rfl⟩ 15 (T := TJ2) (N := 3) rfl (by decide) g17 hl.1 rfl (Nat.le_of_ble_eq_true rfl) dX6_watches_42 ⟨by show _ + 0 ≤ n' - nS; omega, by show _ + 0 ≤ z' - zS; omega⟩ (fun H locs hp => ?_)
        refine lv_bipush (v := 16) hx hb dX6_watches_45 (by decide) ?_
        refine lv_icmp_ne (tgt := 63) hx hb dX6_watches_47 (by decide) (fun c20 => ?_) (fun c20 => ?_)
        · have hF := if_n c20 hF
          refine lv_aload_n hx hb dX6_watches_63 rfl (lv_at hl 0 rfl) ?_
          obtain ⟨M23, e21, hF⟩ := ob_s hF
          refine m_callV (As := []) (rest := []) X hp (w_X6_next hVs e21) q621 q623 qs5 q148 q624 0 rfl ds_X6_next ⟨Nat.le_of_ble_eq_true rfl, Nat.le_of_ble_eq_true rfl⟩ 7 (T := TX6) (N := 10) rfl (by decide) (rI_s e15).1 hl.1 rfl (Nat.le_of_ble_eq_true rfl) dX6_watches_64 ⟨by show _ + 0 ≤ n' - nS; omega, by show _ + 0 ≤ z' - zS; omega⟩ (fun H locs hp => ?_)
          refine lv_aload_n hx hb dX6_watches_67 rfl (lv_at hl 0 rfl) ?_
          refine lv_iconst (v := 0) hx hb dX6_watches_68 (by decide) ?_
          refine lv_sipush (v := 999) hx hb dX6_watches_69 (by decide) ?_
          obtain ⟨⟨o30, S27, M26, n28, z29⟩, e24, hF⟩ := ob_s hF
          have hc := mn_X6_number e24
          rcases xk_s hF with ⟨v25, h31, hF⟩ | ⟨q32, h31, hF⟩
          · subst h31
            have hm := (mn_X6_watches_75 (V := V) (fb_X6_watches_12 V t) @ihm) hF
            refine xm_callV (As := [.int (0 : Int32), .int (999 : Int32)]) (rest := []) X hp (w_X6_number hV hVs hs hVx e24) q825 q827 qs20 q148 q828 2 rfl ds_X6_number ⟨Nat.le_of_ble_eq_true rfl, Nat.le_of_ble_eq_true rfl⟩ 7 (T := TX6) (N := 10) rfl (by decide) (rI_s e15).1 hl.1 rfl (Nat.le_of_ble_eq_true rfl) dX6_watches_72 ⟨by show _ ≤ n' - nS; omega, by show _ ≤ z' - zS; omega⟩ (fun H locs hp => ?_)
            refine W.widen (k := n28 - nS) (n := z29 - zS) (by omega) (by omega) ?_
            exact b_X6_watches_75 hV hVs hs hVx X hX (fb_X6_watches_12 V t) @ihm ih _ _ _ _ _ _ _ _ _ _ (by omega) (by omega) hp (lv_sub hl [0, 1] rfl) hF
          · subst h31
            cases hF
            exact xm_callVT (As := [.int (0 : Int32), .int (999 : Int32)]) (rest := []) X hX hp (w_X6_number hV hVs hs hVx e24) q825 q827 qs20 q148 q828 2 rfl ds_X6_number ⟨Nat.le_of_ble_eq_true rfl, Nat.le_of_ble_eq_true rfl⟩ 7 (T := TX6) (N := 10) rfl (by decide) (rI_s e15).1 hl.1 rfl (Nat.le_of_ble_eq_true rfl) dX6_watches_72 ⟨by show _ ≤ n' - nS; omega, by show _ ≤ z' - zS; omega⟩ ⟨by omega, by omega⟩
        · have hF := if_p c20 hF
          obtain ⟨v33, e34, hF⟩ := ob_s hF
          cases hF
          exact xm_throw (rest := []) (kd := 3) X hX hs hVx hp (lv_at hl 0 rfl) hl.1 (by decide) e34 dX6_watches_50 dX6_watches_53 dX6_watches_54 dX6_watches_55 dX6_watches_56 dX6_watches_59 dX6_watches_62 (Nat.le_of_ble_eq_true rfl) ⟨Nat.le_of_ble_eq_true rfl, Nat.le_of_ble_eq_true rfl⟩ ⟨by show _ ≤ n + 1 - nS; omega, by show _ ≤ z + 8 - zS; omega⟩ ⟨by omega, by omega⟩
      · have hF := if_n c16 hF
        obtain ⟨v35, e36, hF⟩ := ob_s hF
        cases hF
        exact xm_throw (rest := []) (kd := 1) X hX hs hVx hp (lv_at hl 0 rfl) hl.1 (by decide) e36 dX6_watches_28 dX6_watches_31 dX6_watches_32 dX6_watches_33 dX6_watches_34 dX6_watches_37 dX6_watches_40 (Nat.le_of_ble_eq_true rfl) ⟨Nat.le_of_ble_eq_true rfl, Nat.le_of_ble_eq_true rfl⟩ ⟨by show _ ≤ n + 1 - nS; omega, by show _ ≤ z + 8 - zS; omega⟩ ⟨by omega, by omega⟩
def fb_X6_watches_7 (V : Nat → Nat) (S : mSh) (M : mMm) (n z : Nat) (x0 : Nat) (y0 : Nat) : Option ((Nat ⊕ Nat) × mSh × mMm × Nat × Nat) := gd ((S x0).1 = 7) (ob (f_X6_next V S M x0) fun M10 => (fb_X6_watches_12 V FU S M10 n z x0 y0))
theorem mn_X6_watches_7 {r : Nat ⊕ Nat} {S' : mSh} {M' : mMm} {n' z' : Nat} : ∀ {S : mSh} {M : mMm} {n z : Nat} {x0 : Nat} {y0 : Nat}, fb_X6_watches_7 V S M n z x0 y0 = some (r, S', M', n', z') → n ≤ n' ∧ z ≤ z' := by
  intro S M n z x0 y0 hF
  unfold fb_X6_watches_7 at hF
  obtain ⟨g7, hF⟩ := gd_s hF
  obtain ⟨M10, e8, hF⟩ := ob_s hF
  have h9 := (mn_X6_watches_12 (V := V)) hF
  exact ⟨by omega, by omega⟩
theorem b_X6_watches_7 {r : Nat ⊕ Nat} {S' : mSh} {M' : mMm} {n' z' : Nat} {nS zS : Nat} (hV : mV V n0 P) (hVs : mVs V n0 P) (hs : l.stackTraces = false) (hVx : mVx n0 P) (X : mCx D n0 P p m c cX6_watches 4 s args yX6_watches.cls meth (some (.object "java/util/ArrayList"))) (hX : ∀ x ∈ c.exceptionTable.toList, False) : ∀ (S : mSh) (M : mMm) (n z : Nat) (x0 : Nat) (y0 : Nat) (H : Heap) (locs : List Loc) (ls : Array Slot), nS ≤ n → zS ≤ z → mHp D n0 S M n s H locs → lv_has ls 4 [(0, .ref x0)] → fb_X6_watches_7 V S M n z x0 y0 = some (r, S', M', n', z') → W p l e (Rm_X6_watches (n' - nS) (z' - zS)) s m args below meth c H locs (n - nS) (z - zS) (mMX below D n0 (moR r) S' M' n' args s (n' - nS) (z' - zS)) (F0 m 7 ls [.ref y0]) := by
  have hx := X.1.1
  have hb := X.1.2.1
  have hown := X.1.2.2.2.1
  have hts := X.1.2.2.2.2
  intro S M n z x0 y0 H locs ls hn hz hp hl hF
  have hm0 := mn_X6_watches_7 hF
  unfold fb_X6_watches_7 at hF
  refine lv_astore_n (lv' := [(1, .ref y0), (0, .ref x0)]) hx hb dX6_watches_7 rfl hl (by decide) rfl (fun ls hl => ?_)
  refine lv_aload_n hx hb dX6_watches_8 rfl (lv_at hl 1 rfl) ?_
  obtain ⟨g7, hF⟩ := gd_s hF
  obtain ⟨M10, e8, hF⟩ := ob_s hF
  refine m_callV (As := []) (rest := []) X hp (w_X6_next hVs e8) q621 q623 qs5 q148 q624 0 rfl ds_X6_next ⟨Nat.le_of_ble_eq_true rfl, Nat.le_of_ble_eq_true rfl⟩ 7 (T := TX6) (N := 10) rfl (by decide) g7 hl.1 rfl (Nat.le_of_ble_eq_true rfl) dX6_watches_9 ⟨by show _ + 0 ≤ n' - nS; omega, by show _ + 0 ≤ z' - zS; omega⟩ (fun H locs hp => ?_)
  exact b_X6_watches_12 hV hVs hs hVx X hX _ _ _ _ _ _ _ _ _ _ (by omega) (by omega) hp (lv_sub hl [1, 0] rfl) hF
def fb_X6_watches_3 (V : Nat → Nat) (S : mSh) (M : mMm) (n z : Nat) (x0 : Nat) (y0 : Nat) : Option ((Nat ⊕ Nat) × mSh × mMm × Nat × Nat) := ob (f_J2_init V S M n z y0) fun ⟨S4, M3, n5, z6⟩ => (fb_X6_watches_7 V S4 M3 n5 z6 x0 y0)
theorem mn_X6_watches_3 {r : Nat ⊕ Nat} {S' : mSh} {M' : mMm} {n' z' : Nat} : ∀ {S : mSh} {M : mMm} {n z : Nat} {x0 : Nat} {y0 : Nat}, fb_X6_watches_3 V S M n z x0 y0 = some (r, S', M', n', z') → n ≤ n' ∧ z ≤ z' := by
  intro S M n z x0 y0 hF
  unfold fb_X6_watches_3 at hF
  obtain ⟨⟨S4, M3, n5, z6⟩, e1, hF⟩ := ob_s hF
  have hc := mn_J2_init e1
  have h9 := (mn_X6_watches_7 (V := V)) hF
  exact ⟨by omega, by omega⟩
theorem b_X6_watches_3 {r : Nat ⊕ Nat} {S' : mSh} {M' : mMm} {n' z' : Nat} {nS zS : Nat} (hV : mV V n0 P) (hVs : mVs V n0 P) (hs : l.stackTraces = false) (hVx : mVx n0 P) (X : mCx D n0 P p m c cX6_watches 4 s args yX6_watches.cls meth (some (.object "java/util/ArrayList"))) (hX : ∀ x ∈ c.exceptionTable.toList, False) : ∀ (S : mSh) (M : mMm) (n z : Nat) (x0 : Nat) (y0 : Nat) (H : Heap) (locs : List Loc) (ls : Array Slot), nS ≤ n → zS ≤ z → mHp D n0 S M n s H locs → lv_has ls 4 [(0, .ref x0)] → fb_X6_watches_3 V S M n z x0 y0 = some (r, S', M', n', z') → W p l e (Rm_X6_watches (n' - nS) (z' - zS)) s m args below meth c H locs (n - nS) (z - zS) (mMX below D n0 (moR r) S' M' n' args s (n' - nS) (z' - zS)) (F0 m 3 ls [.ref y0]) := by
  have hx := X.1.1
  have hb := X.1.2.1
  have hown := X.1.2.2.2.1
  have hts := X.1.2.2.2.2
  intro S M n z x0 y0 H locs ls hn hz hp hl hF
  have hm0 := mn_X6_watches_3 hF
  unfold fb_X6_watches_3 at hF
  refine lv_dup hx hb dX6_watches_3 rfl ?_
  obtain ⟨⟨S4, M3, n5, z6⟩, e1, hF⟩ := ob_s hF
  have hc := mn_J2_init e1
  have hm := (mn_X6_watches_7 (V := V)) hF
  refine m_callI (As := []) (rest := [.ref y0]) X hp (w_J2_init hV e1) q584 q223 q138 q224 rfl 0 rfl ds_J2_init ⟨Nat.le_of_ble_eq_true rfl, Nat.le_of_ble_eq_true rfl⟩ hl.1 rfl (Nat.le_of_ble_eq_true rfl) dX6_watches_4 ⟨by show _ ≤ n' - nS; omega, by show _ ≤ z' - zS; omega⟩ (fun H locs hp => ?_)
  refine W.widen (k := n5 - nS) (n := z6 - zS) (by omega) (by omega) ?_
  exact b_X6_watches_7 hV hVs hs hVx X hX _ _ _ _ _ _ _ _ _ (by omega) (by omega) hp (lv_sub hl [0] rfl) hF
def fb_X6_watches_0 (V : Nat → Nat) (S : mSh) (M : mMm) (n z : Nat) (x0 : Nat) : Option ((Nat ⊕ Nat) × mSh × mMm × Nat × Nat) := (fb_X6_watches_3 V (mS1 S n (15, 0)) (mM1 M n fun k => defaultValue (tyJ2 k)) (n + 1) (z + 3) x0 n)
theorem mn_X6_watches_0 {r : Nat ⊕ Nat} {S' : mSh} {M' : mMm} {n' z' : Nat} : ∀ {S : mSh} {M : mMm} {n z : Nat} {x0 : Nat}, fb_X6_watches_0 V S M n z x0 = some (r, S', M', n', z') → n ≤ n' ∧ z ≤ z' := by
  intro S M n z x0 hF
  unfold fb_X6_watches_0 at hF
  have h9 := (mn_X6_watches_3 (V := V)) hF
  exact ⟨by omega, by omega⟩
theorem b_X6_watches_0 {r : Nat ⊕ Nat} {S' : mSh} {M' : mMm} {n' z' : Nat} {nS zS : Nat} (hV : mV V n0 P) (hVs : mVs V n0 P) (hs : l.stackTraces = false) (hVx : mVx n0 P) (X : mCx D n0 P p m c cX6_watches 4 s args yX6_watches.cls meth (some (.object "java/util/ArrayList"))) (hX : ∀ x ∈ c.exceptionTable.toList, False) : ∀ (S : mSh) (M : mMm) (n z : Nat) (x0 : Nat) (H : Heap) (locs : List Loc) (ls : Array Slot), nS ≤ n → zS ≤ z → mHp D n0 S M n s H locs → lv_has ls 4 [(0, .ref x0)] → fb_X6_watches_0 V S M n z x0 = some (r, S', M', n', z') → W p l e (Rm_X6_watches (n' - nS) (z' - zS)) s m args below meth c H locs (n - nS) (z - zS) (mMX below D n0 (moR r) S' M' n' args s (n' - nS) (z' - zS)) (F0 m 0 ls []) := by
  have hx := X.1.1
  have hb := X.1.2.1
  have hown := X.1.2.2.2.1
  have hts := X.1.2.2.2.2
  intro S M n z x0 H locs ls hn hz hp hl hF
  have hm0 := mn_X6_watches_0 hF
  unfold fb_X6_watches_0 at hF
  have hm := (mn_X6_watches_3 (V := V)) hF
  refine m_new X hp kJ2 q583 q221 q138 (by show _ ≤ n' - nS; omega) (by show _ ≤ z' - zS; omega) dX6_watches_0 (fun H hp => ?_)
  refine W.widen (k := n + 1 - nS) (n := z + 3 - zS) (by omega) (by omega) ?_
  exact b_X6_watches_3 hV hVs hs hVx X hX _ _ _ _ _ _ _ _ _ (by omega) (by omega) hp (lv_sub hl [0] rfl) hF
def f_X6_watches (V : Nat → Nat) (S : mSh) (M : mMm) (n z : Nat) (x0 : Nat) : Option ((Nat ⊕ Nat) × mSh × mMm × Nat × Nat) := (fb_X6_watches_0 V S M n z x0)
theorem mn_X6_watches {x0 : Nat} {r : Nat ⊕ Nat} {S' : mSh} {M' : mMm} {n' z' : Nat} {S : mSh} {M : mMm} {n z : Nat} (hF : f_X6_watches V S M n z x0 = some (r, S', M', n', z')) : n ≤ n' ∧ z ≤ z' := by
  unfold f_X6_watches at hF
  exact mn_X6_watches_0 hF
theorem w_X6_watches {x0 : Nat} {r : Nat ⊕ Nat} {S' : mSh} {M' : mMm} {n' z' : Nat} {S : mSh} {M : mMm} {n z : Nat} (hV : mV V n0 P) (hVs : mVs V n0 P) (hs : l.stackTraces = false) (hVx : mVx n0 P) (hF : f_X6_watches V S M n z x0 = some (r, S', M', n', z')) : mXt l D n0 P yX6_watches cX6_watches 4 (some (.object "java/util/ArrayList")) 10 267 (n' - n) (z' - z) [.ref x0] S M n (moR r) S' M' n' := by
  refine m_ofX (by decide) (Nat.le_of_ble_eq_true rfl) (fun p e s m below meth c X hX hp ls hl => ?_)
  unfold f_X6_watches at hF
  refine W.widen (k := n - n) (n := z - z) (by omega) (by omega) ?_
  exact b_X6_watches_0 hV hVs hs hVx X hX _ _ _ _ _ _ _ _ (Nat.le_refl _) (Nat.le_refl _) hp hl hF
end
section
variable {l : Launch} {D : va_G} {n0 : Nat} {P : mP} {V : Nat → Nat} {p : Program} {e : Env} {s : State} {m : MethodId} {args : Array Value} {below : List Frame} {meth : Method} {c : Code}
abbrev Rm_X0_reads (mc ms : Nat) : Room := { frames := 47, cells := mc, slots := ms, locals := 1060 }
def fb_X0_reads_44 (V : Nat → Nat) (S : mSh) (M : mMm) (n z : Nat) (x0 : Nat) (y0 : Nat) (y1 : Nat) : Option ((Int32 ⊕ Nat) × mSh × mMm × Nat × Nat) := ob (wF S M y1 2 7 (.ref y0)) fun M104 => ob (rR S M104 x0 1 4) fun v106 => ob (rR S M104 v106 2 7) fun v108 => gd ((S v108).1 = 15) (ob (f_J2_size S M104 v108) fun v112 => some (.inl v112, S, M104, n, z))
theorem mn_X0_reads_44 {r : Int32 ⊕ Nat} {S' : mSh} {M' : mMm} {n' z' : Nat} : ∀ {S : mSh} {M : mMm} {n z : Nat} {x0 : Nat} {y0 : Nat} {y1 : Nat}, fb_X0_reads_44 V S M n z x0 y0 y1 = some (r, S', M', n', z') → n ≤ n' ∧ z ≤ z' := by
  intro S M n z x0 y0 y1 hF
  unfold fb_X0_reads_44 at hF
  obtain ⟨M104, e105, hF⟩ := ob_s hF
  obtain ⟨v106, e107, hF⟩ := ob_s hF
  obtain ⟨v108, e109, hF⟩ := ob_s hF
  obtain ⟨g110, hF⟩ := gd_s hF
  obtain ⟨v112, e111, hF⟩ := ob_s hF
  cases hF
  exact ⟨Nat.le_refl _, Nat.le_refl _⟩
theorem b_X0_reads_44 {r : Int32 ⊕ Nat} {S' : mSh} {M' : mMm} {n' z' : Nat} {nS zS : Nat} (hV : mV V n0 P) (hVs : mVs V n0 P) (hs : l.stackTraces = false) (hVx : mVx n0 P) (X : mCx D n0 P p m c cX0_reads 5 s args yX0_reads.cls meth (some .int)) (hX : ∀ x ∈ c.exceptionTable.toList, False) : ∀ (S : mSh) (M : mMm) (n z : Nat) (x0 : Nat) (y0 : Nat) (y1 : Nat) (H : Heap) (locs : List Loc) (ls : Array Slot), nS ≤ n → zS ≤ z → mHp D n0 S M n s H locs → lv_has ls 5 [(0, .ref x0)] → fb_X0_reads_44 V S M n z x0 y0 y1 = some (r, S', M', n', z') → W p l e (Rm_X0_reads (n' - nS) (z' - zS)) s m args below meth c H locs (n - nS) (z - zS) (mMX below D n0 (moI r) S' M' n' args s (n' - nS) (z' - zS)) (F0 m 44 ls [.ref y0, .ref y1]) := by
  have hx := X.1.1
  have hb := X.1.2.1
  have hown := X.1.2.2.2.1
  have hts := X.1.2.2.2.2
  intro S M n z x0 y0 y1 H locs ls hn hz hp hl hF
  have hm0 := mn_X0_reads_44 hF
  unfold fb_X0_reads_44 at hF
  obtain ⟨M104, e105, hF⟩ := ob_s hF
  refine m_putWN X hp e105 kX1 (Nat.le_of_ble_eq_true rfl) q390 rfl rfl rfl dX0_reads_44 (fun H locs hp => ?_)
  refine lv_aload_n hx hb dX0_reads_47 rfl (lv_at hl 0 rfl) ?_
  obtain ⟨v106, e107, hF⟩ := ob_s hF
  refine m_getR X hp e107 kX0 (Nat.le_of_ble_eq_true rfl) q463 dX0_reads_48 ?_
  obtain ⟨v108, e109, hF⟩ := ob_s hF
  refine m_getRN X hp e109 kX1 (Nat.le_of_ble_eq_true rfl) q390 dX0_reads_51 ?_
  obtain ⟨g110, hF⟩ := gd_s hF
  obtain ⟨v112, e111, hF⟩ := ob_s hF
  refine m_callV (As := []) (rest := []) X hp (w_J2_size e111) q916 q808 q809 q138 q810 0 rfl ds_J2_size ⟨Nat.le_of_ble_eq_true rfl, Nat.le_of_ble_eq_true rfl⟩ 15 (T := TJ2) (N := 3) rfl (by decide) g110 hl.1 rfl (Nat.le_of_ble_eq_true rfl) dX0_reads_54 ⟨by show _ + 0 ≤ n' - nS; omega, by show _ + 0 ≤ z' - zS; omega⟩ (fun H locs hp => ?_)
  cases hF
  exact xm_ret (m_iret X hp dX0_reads_57)
def fb_X0_reads_163 (V : Nat → Nat) (S : mSh) (M : mMm) (n z : Nat) (x0 : Nat) (x3 : Int32) : Option ((Int32 ⊕ Nat) × mSh × mMm × Nat × Nat) := gd ((S x0).1 = 1) (ob (f_X0_forgets S M x0) fun ⟨v69, M70⟩ => some (.inl x3, S, M70, n, z))
theorem mn_X0_reads_163 {r : Int32 ⊕ Nat} {S' : mSh} {M' : mMm} {n' z' : Nat} : ∀ {S : mSh} {M : mMm} {n z : Nat} {x0 : Nat} {x3 : Int32}, fb_X0_reads_163 V S M n z x0 x3 = some (r, S', M', n', z') → n ≤ n' ∧ z ≤ z' := by
  intro S M n z x0 x3 hF
  unfold fb_X0_reads_163 at hF
  obtain ⟨g67, hF⟩ := gd_s hF
  obtain ⟨⟨v69, M70⟩, e68, hF⟩ := ob_s hF
  cases hF
  exact ⟨Nat.le_refl _, Nat.le_refl _⟩
theorem b_X0_reads_163 {r : Int32 ⊕ Nat} {S' : mSh} {M' : mMm} {n' z' : Nat} {nS zS : Nat} (hV : mV V n0 P) (hVs : mVs V n0 P) (hs : l.stackTraces = false) (hVx : mVx n0 P) (X : mCx D n0 P p m c cX0_reads 5 s args yX0_reads.cls meth (some .int)) (hX : ∀ x ∈ c.exceptionTable.toList, False) : ∀ (S : mSh) (M : mMm) (n z : Nat) (x0 : Nat) (x3 : Int32) (H : Heap) (locs : List Loc) (ls : Array Slot), nS ≤ n → zS ≤ z → mHp D n0 S M n s H locs → lv_has ls 5 [(0, .ref x0), (3, .int x3)] → fb_X0_reads_163 V S M n z x0 x3 = some (r, S', M', n', z') → W p l e (Rm_X0_reads (n' - nS) (z' - zS)) s m args below meth c H locs (n - nS) (z - zS) (mMX below D n0 (moI r) S' M' n' args s (n' - nS) (z' - zS)) (F0 m 163 ls []) := by
  have hx := X.1.1
  have hb := X.1.2.1
  have hown := X.1.2.2.2.1
  have hts := X.1.2.2.2.2
  intro S M n z x0 x3 H locs ls hn hz hp hl hF
  have hm0 := mn_X0_reads_163 hF
  unfold fb_X0_reads_163 at hF
  refine lv_aload_n hx hb dX0_reads_163 rfl (lv_at hl 0 rfl) ?_
  obtain ⟨g67, hF⟩ := gd_s hF
  obtain ⟨⟨v69, M70⟩, e68, hF⟩ := ob_s hF
  refine m_callV (As := []) (rest := []) X hp (w_X0_forgets e68) q981 q983 qs29 q132 q984 0 rfl ds_X0_forgets ⟨Nat.le_of_ble_eq_true rfl, Nat.le_of_ble_eq_true rfl⟩ 1 (T := TX0) (N := 30) rfl (by decide) g67 hl.1 rfl (Nat.le_of_ble_eq_true rfl) dX0_reads_164 ⟨by show _ + 0 ≤ n' - nS; omega, by show _ + 0 ≤ z' - zS; omega⟩ (fun H locs hp => ?_)
  refine lv_pop hx hb dX0_reads_167 rfl ?_
  refine lv_iload_n hx hb dX0_reads_168 rfl (lv_at hl 1 rfl) ?_
  cases hF
  exact xm_ret (m_iret X hp dX0_reads_169)
def fb_X0_reads_66 (V : Nat → Nat) (S : mSh) (M : mMm) (n z : Nat) (x0 : Nat) (x2 : Nat) (y0 : Nat) (y1 : Nat) : Option ((Int32 ⊕ Nat) × mSh × mMm × Nat × Nat) := gd ((S y1).1 = 2) (ob (f_X1_isLaid S M y1 y0) fun M97 => ob (rI S M97 x2 7 8) fun v98 => ob (rR S M97 x0 1 4) fun v100 => ob (wF S M97 v100 2 15 (.int v98)) fun M102 => (fb_X0_reads_163 V S M102 n z x0 v98))
theorem mn_X0_reads_66 {r : Int32 ⊕ Nat} {S' : mSh} {M' : mMm} {n' z' : Nat} : ∀ {S : mSh} {M : mMm} {n z : Nat} {x0 : Nat} {x2 : Nat} {y0 : Nat} {y1 : Nat}, fb_X0_reads_66 V S M n z x0 x2 y0 y1 = some (r, S', M', n', z') → n ≤ n' ∧ z ≤ z' := by
  intro S M n z x0 x2 y0 y1 hF
  unfold fb_X0_reads_66 at hF
  obtain ⟨g94, hF⟩ := gd_s hF
  obtain ⟨M97, e95, hF⟩ := ob_s hF
  obtain ⟨v98, e99, hF⟩ := ob_s hF
  obtain ⟨v100, e101, hF⟩ := ob_s hF
  obtain ⟨M102, e103, hF⟩ := ob_s hF
  have h9 := (mn_X0_reads_163 (V := V)) hF
  exact ⟨by omega, by omega⟩
theorem b_X0_reads_66 {r : Int32 ⊕ Nat} {S' : mSh} {M' : mMm} {n' z' : Nat} {nS zS : Nat} (hV : mV V n0 P) (hVs : mVs V n0 P) (hs : l.stackTraces = false) (hVx : mVx n0 P) (X : mCx D n0 P p m c cX0_reads 5 s args yX0_reads.cls meth (some .int)) (hX : ∀ x ∈ c.exceptionTable.toList, False) : ∀ (S : mSh) (M : mMm) (n z : Nat) (x0 : Nat) (x2 : Nat) (y0 : Nat) (y1 : Nat) (H : Heap) (locs : List Loc) (ls : Array Slot), nS ≤ n → zS ≤ z → mHp D n0 S M n s H locs → lv_has ls 5 [(0, .ref x0), (2, .ref x2)] → fb_X0_reads_66 V S M n z x0 x2 y0 y1 = some (r, S', M', n', z') → W p l e (Rm_X0_reads (n' - nS) (z' - zS)) s m args below meth c H locs (n - nS) (z - zS) (mMX below D n0 (moI r) S' M' n' args s (n' - nS) (z' - zS)) (F0 m 66 ls [.ref y0, .ref y1]) := by
  have hx := X.1.1
  have hb := X.1.2.1
  have hown := X.1.2.2.2.1
  have hts := X.1.2.2.2.2
  intro S M n z x0 x2 y0 y1 H locs ls hn hz hp hl hF
  have hm0 := mn_X0_reads_66 hF
  unfold fb_X0_reads_66 at hF
  obtain ⟨g94, hF⟩ := gd_s hF
  obtain ⟨M97, e95, hF⟩ := ob_s hF
  refine m_callV (As := [.ref y0]) (rest := []) X hp (w_X1_isLaid e95) q927 q928 q929 q133 q930 1 rfl ds_X1_isLaid ⟨Nat.le_of_ble_eq_true rfl, Nat.le_of_ble_eq_true rfl⟩ 2 (T := TX1) (N := 19) rfl (by decide) g94 hl.1 rfl (Nat.le_of_ble_eq_true rfl) dX0_reads_66 ⟨by show _ + 0 ≤ n' - nS; omega, by show _ + 0 ≤ z' - zS; omega⟩ (fun H locs hp => ?_)
  refine lv_aload_n hx hb dX0_reads_69 rfl (lv_at hl 1 rfl) ?_
  obtain ⟨v98, e99, hF⟩ := ob_s hF
  refine m_getIN X hp e99 kX6 (Nat.le_of_ble_eq_true rfl) q593 dX0_reads_70 ?_
  refine lv_istore_n (lv' := [(3, .int v98), (0, .ref x0), (2, .ref x2)]) hx hb dX0_reads_73 rfl hl (by decide) rfl (fun ls hl => ?_)
  refine lv_aload_n hx hb dX0_reads_74 rfl (lv_at hl 1 rfl) ?_
  obtain ⟨v100, e101, hF⟩ := ob_s hF
  refine m_getR X hp e101 kX0 (Nat.le_of_ble_eq_true rfl) q463 dX0_reads_75 ?_
  refine lv_iload_n hx hb dX0_reads_78 rfl (lv_at hl 0 rfl) ?_
  obtain ⟨M102, e103, hF⟩ := ob_s hF
  refine m_putWN X hp e103 kX1 (Nat.le_of_ble_eq_true rfl) q407 rfl rfl rfl dX0_reads_79 (fun H locs hp => ?_)
  refine lv_goto (tgt := 163) hx hb dX0_reads_82 (by decide) ?_
  exact b_X0_reads_163 hV hVs hs hVx X hX _ _ _ _ _ _ _ _ _ (by omega) (by omega) hp (lv_sub hl [1, 0] rfl) hF
def fb_X0_reads_112 (V : Nat → Nat) : Nat → mSh → mMm → Nat → Nat → Nat → Int32 → Int32 → Option ((Int32 ⊕ Nat) × mSh × mMm × Nat × Nat)
  | 0, _, _, _, _, _, _, _ => none
  | t + 1, S, M, n, z, x0, x3, x4 => (if (16 : Int32) ≤ x4 then (fb_X0_reads_163 V S M n z x0 x3) else ob (rR S M x0 1 4) fun v82 => ob (rR S M v82 2 1) fun v84 => ob (aR S M v84 104 x4) fun v86 => gd ((S v86).1 = 5) (ob (f_X4_begins S M v86) fun M91 => nm (x4 + (1 : Int32)) fun v92 => (fb_X0_reads_112 V t S M91 n z x0 x3 v92)))
theorem mn_X0_reads_112 {r : Int32 ⊕ Nat} {S' : mSh} {M' : mMm} {n' z' : Nat} : ∀ {t : Nat} {S : mSh} {M : mMm} {n z : Nat} {x0 : Nat} {x3 : Int32} {x4 : Int32}, fb_X0_reads_112 V t S M n z x0 x3 x4 = some (r, S', M', n', z') → n ≤ n' ∧ z ≤ z' := by
  intro t
  induction t with
  | zero =>
    intro S M n z x0 x3 x4 hF
    have hF : none = some (r, S', M', n', z') := hF
    cases hF
  | succ t ihm =>
    intro S M n z x0 x3 x4 hF
    rw [fb_X0_reads_112] at hF
    rcases Decidable.em ((16 : Int32) ≤ x4) with c81 | c81
    · have hF := if_p c81 hF
      have h9 := (mn_X0_reads_163 (V := V)) hF
      exact ⟨by omega, by omega⟩
    · have hF := if_n c81 hF
      obtain ⟨v82, e83, hF⟩ := ob_s hF
      obtain ⟨v84, e85, hF⟩ := ob_s hF
      obtain ⟨v86, e87, hF⟩ := ob_s hF
      obtain ⟨g88, hF⟩ := gd_s hF
      obtain ⟨M91, e89, hF⟩ := ob_s hF
      obtain ⟨v92, ev93⟩ : ∃ y : Int32, y = x4 + (1 : Int32) := ⟨_, rfl⟩
      have hF := nm_s hF rfl
      have h9 := ihm hF
      exact ⟨by omega, by omega⟩
theorem b_X0_reads_112 {r : Int32 ⊕ Nat} {S' : mSh} {M' : mMm} {n' z' : Nat} {nS zS : Nat} (hV : mV V n0 P) (hVs : mVs V n0 P) (hs : l.stackTraces = false) (hVx : mVx n0 P) (X : mCx D n0 P p m c cX0_reads 5 s args yX0_reads.cls meth (some .int)) (hX : ∀ x ∈ c.exceptionTable.toList, False) : ∀ t : Nat, ∀ (S : mSh) (M : mMm) (n z : Nat) (x0 : Nat) (x3 : Int32) (x4 : Int32) (H : Heap) (locs : List Loc) (ls : Array Slot), nS ≤ n → zS ≤ z → mHp D n0 S M n s H locs → lv_has ls 5 [(0, .ref x0), (3, .int x3), (4, .int x4)] → fb_X0_reads_112 V t S M n z x0 x3 x4 = some (r, S', M', n', z') → W p l e (Rm_X0_reads (n' - nS) (z' - zS)) s m args below meth c H locs (n - nS) (z - zS) (mMX below D n0 (moI r) S' M' n' args s (n' - nS) (z' - zS)) (F0 m 112 ls []) := by
  have hx := X.1.1
  have hb := X.1.2.1
  have hown := X.1.2.2.2.1
  have hts := X.1.2.2.2.2
  intro t
  induction t with
  | zero =>
    intro S M n z x0 x3 x4 H locs ls hn hz hp hl hF
    have hF : none = some (r, S', M', n', z') := hF
    cases hF
  | succ t ih =>
    intro S M n z x0 x3 x4 H locs ls hn hz hp hl hF
    have ihm := @mn_X0_reads_112 V r S' M' n' z' t
    have hm0 := mn_X0_reads_112 hF
    rw [fb_X0_reads_112] at hF
    refine lv_iload hx hb dX0_reads_112 (lv_at hl 2 rfl) ?_
    refine lv_bipush (v := 16) hx hb dX0_reads_114 (by decide) ?_
    refine lv_icmp_ge (tgt := 138) hx hb dX0_reads_116 (by decide) (fun c81 => ?_) (fun c81 => ?_)
    · have hF := if_p c81 hF
      refine lv_goto (tgt := 163) hx hb dX0_reads_138 (by decide) ?_
      exact b_X0_reads_163 hV hVs hs hVx X hX _ _ _ _ _ _ _ _ _ (by omega) (by omega) hp (lv_sub hl [0, 1] rfl) hF
    · have hF := if_n c81 hF
      refine lv_aload_n hx hb dX0_reads_119 rfl (lv_at hl 0 rfl) ?_
      obtain ⟨v82, e83, hF⟩ := ob_s hF
      refine m_getR X hp e83 kX0 (Nat.le_of_ble_eq_true rfl) q463 dX0_reads_120 ?_
      obtain ⟨v84, e85, hF⟩ := ob_s hF
      refine m_getRN X hp e85 kX1 (Nat.le_of_ble_eq_true rfl) q378 dX0_reads_123 ?_
      refine lv_iload hx hb dX0_reads_126 (lv_at hl 2 rfl) ?_
      obtain ⟨v86, e87, hF⟩ := ob_s hF
      refine m_aaR 104 X hp e87 rfl (by decide) rfl dX0_reads_128 ?_
      obtain ⟨g88, hF⟩ := gd_s hF
      obtain ⟨M91, e89, hF⟩ := ob_s hF
      refine m_callV (As := []) (rest := []) X hp (w_X4_begins e89) q961 q310 q311 q139 q312 0 rfl ds_X4_begins ⟨Nat.le_of_ble_eq_true rfl, Nat.le_of_ble_eq_true rfl⟩ 5 (T := TX4) (N := 11) rfl (by decide) g88 hl.1 rfl (Nat.le_of_ble_eq_true rfl) dX0_reads_129 ⟨by show _ + 0 ≤ n' - nS; omega, by show _ + 0 ≤ z' - zS; omega⟩ (fun H locs hp => ?_)
      obtain ⟨v92, ev93⟩ : ∃ y : Int32, y = x4 + (1 : Int32) := ⟨_, rfl⟩
      have hF := nm_s hF ev93
      refine lv_iinc (v := v92) (lv' := [(4, .int v92), (0, .ref x0), (3, .int x3)]) hx hb dX0_reads_132 hl (k := 2) rfl (by rw [ev93]; rfl) (by decide) rfl (fun ls hl => ?_)
      refine lv_goto (tgt := 112) hx hb dX0_reads_135 (by decide) ?_
      exact ih _ _ _ _ _ _ _ _ _ _ (by omega) (by omega) hp (lv_sub hl [1, 2, 0] rfl) hF
def fb_X0_reads_93 (V : Nat → Nat) (S : mSh) (M : mMm) (n z : Nat) (x0 : Nat) (x2 : Nat) (y0 : Nat) (y1 : Nat) : Option ((Int32 ⊕ Nat) × mSh × mMm × Nat × Nat) := ob (wF S M y1 2 8 (.ref y0)) fun M71 => ob (rI S M71 x2 7 8) fun v73 => ob (rR S M71 x0 1 4) fun v75 => ob (wF S M71 v75 2 16 (.int v73)) fun M77 => nm ((0 : Int32)) fun v79 => (fb_X0_reads_112 V FU S M77 n z x0 v73 v79)
theorem mn_X0_reads_93 {r : Int32 ⊕ Nat} {S' : mSh} {M' : mMm} {n' z' : Nat} : ∀ {S : mSh} {M : mMm} {n z : Nat} {x0 : Nat} {x2 : Nat} {y0 : Nat} {y1 : Nat}, fb_X0_reads_93 V S M n z x0 x2 y0 y1 = some (r, S', M', n', z') → n ≤ n' ∧ z ≤ z' := by
  intro S M n z x0 x2 y0 y1 hF
  unfold fb_X0_reads_93 at hF
  obtain ⟨M71, e72, hF⟩ := ob_s hF
  obtain ⟨v73, e74, hF⟩ := ob_s hF
  obtain ⟨v75, e76, hF⟩ := ob_s hF
  obtain ⟨M77, e78, hF⟩ := ob_s hF
  have hF := nm_s hF rfl
  have h9 := (mn_X0_reads_112 (V := V)) hF
  exact ⟨by omega, by omega⟩
theorem b_X0_reads_93 {r : Int32 ⊕ Nat} {S' : mSh} {M' : mMm} {n' z' : Nat} {nS zS : Nat} (hV : mV V n0 P) (hVs : mVs V n0 P) (hs : l.stackTraces = false) (hVx : mVx n0 P) (X : mCx D n0 P p m c cX0_reads 5 s args yX0_reads.cls meth (some .int)) (hX : ∀ x ∈ c.exceptionTable.toList, False) : ∀ (S : mSh) (M : mMm) (n z : Nat) (x0 : Nat) (x2 : Nat) (y0 : Nat) (y1 : Nat) (H : Heap) (locs : List Loc) (ls : Array Slot), nS ≤ n → zS ≤ z → mHp D n0 S M n s H locs → lv_has ls 5 [(0, .ref x0), (2, .ref x2)] → fb_X0_reads_93 V S M n z x0 x2 y0 y1 = some (r, S', M', n', z') → W p l e (Rm_X0_reads (n' - nS) (z' - zS)) s m args below meth c H locs (n - nS) (z - zS) (mMX below D n0 (moI r) S' M' n' args s (n' - nS) (z' - zS)) (F0 m 93 ls [.ref y0, .ref y1]) := by
  have hx := X.1.1
  have hb := X.1.2.1
  have hown := X.1.2.2.2.1
  have hts := X.1.2.2.2.2
  intro S M n z x0 x2 y0 y1 H locs ls hn hz hp hl hF
  have hm0 := mn_X0_reads_93 hF
  unfold fb_X0_reads_93 at hF
  obtain ⟨M71, e72, hF⟩ := ob_s hF
  refine m_putWN X hp e72 kX1 (Nat.le_of_ble_eq_true rfl) q392 rfl rfl rfl dX0_reads_93 (fun H locs hp => ?_)
  refine lv_aload_n hx hb dX0_reads_96 rfl (lv_at hl 1 rfl) ?_
  obtain ⟨v73, e74, hF⟩ := ob_s hF
  refine m_getIN X hp e74 kX6 (Nat.le_of_ble_eq_true rfl) q593 dX0_reads_97 ?_
  refine lv_istore_n (lv' := [(3, .int v73), (0, .ref x0), (2, .ref x2)]) hx hb dX0_reads_100 rfl hl (by decide) rfl (fun ls hl => ?_)
  refine lv_aload_n hx hb dX0_reads_101 rfl (lv_at hl 1 rfl) ?_
  obtain ⟨v75, e76, hF⟩ := ob_s hF
  refine m_getR X hp e76 kX0 (Nat.le_of_ble_eq_true rfl) q463 dX0_reads_102 ?_
  refine lv_iload_n hx hb dX0_reads_105 rfl (lv_at hl 0 rfl) ?_
  obtain ⟨M77, e78, hF⟩ := ob_s hF
  refine m_putWN X hp e78 kX1 (Nat.le_of_ble_eq_true rfl) q409 rfl rfl rfl dX0_reads_106 (fun H locs hp => ?_)
  refine lv_iconst (v := 0) hx hb dX0_reads_109 (by decide) ?_
  refine lv_topi (fun v79 ev80 => ?_)
  have hF := nm_s hF ev80
  refine lv_istore (lv' := [(4, .int v79), (3, .int v73), (0, .ref x0), (2, .ref x2)]) hx hb dX0_reads_110 hl (by decide) rfl (fun ls hl => ?_)
  exact b_X0_reads_112 hV hVs hs hVx X hX _ _ _ _ _ _ _ _ _ _ _ (by omega) (by omega) hp (lv_sub hl [2, 1, 0] rfl) hF
def fb_X0_reads_149 (V : Nat → Nat) (S : mSh) (M : mMm) (n z : Nat) (x0 : Nat) (y0 : Nat) (y1 : Nat) : Option ((Int32 ⊕ Nat) × mSh × mMm × Nat × Nat) := ob (wF S M y1 2 9 (.ref y0)) fun M58 => ob (rR S M58 x0 1 4) fun v60 => ob (rR S M58 v60 2 9) fun v62 => gd ((S v62).1 = 15) (ob (f_J2_size S M58 v62) fun v66 => (fb_X0_reads_163 V S M58 n z x0 v66))
theorem mn_X0_reads_149 {r : Int32 ⊕ Nat} {S' : mSh} {M' : mMm} {n' z' : Nat} : ∀ {S : mSh} {M : mMm} {n z : Nat} {x0 : Nat} {y0 : Nat} {y1 : Nat}, fb_X0_reads_149 V S M n z x0 y0 y1 = some (r, S', M', n', z') → n ≤ n' ∧ z ≤ z' := by
  intro S M n z x0 y0 y1 hF
  unfold fb_X0_reads_149 at hF
  obtain ⟨M58, e59, hF⟩ := ob_s hF
  obtain ⟨v60, e61, hF⟩ := ob_s hF
  obtain ⟨v62, e63, hF⟩ := ob_s hF
  obtain ⟨g64, hF⟩ := gd_s hF
  obtain ⟨v66, e65, hF⟩ := ob_s hF
  have h9 := (mn_X0_reads_163 (V := V)) hF
  exact ⟨by omega, by omega⟩
theorem b_X0_reads_149 {r : Int32 ⊕ Nat} {S' : mSh} {M' : mMm} {n' z' : Nat} {nS zS : Nat} (hV : mV V n0 P) (hVs : mVs V n0 P) (hs : l.stackTraces = false) (hVx : mVx n0 P) (X : mCx D n0 P p m c cX0_reads 5 s args yX0_reads.cls meth (some .int)) (hX : ∀ x ∈ c.exceptionTable.toList, False) : ∀ (S : mSh) (M : mMm) (n z : Nat) (x0 : Nat) (y0 : Nat) (y1 : Nat) (H : Heap) (locs : List Loc) (ls : Array Slot), nS ≤ n → zS ≤ z → mHp D n0 S M n s H locs → lv_has ls 5 [(0, .ref x0)] → fb_X0_reads_149 V S M n z x0 y0 y1 = some (r, S', M', n', z') → W p l e (Rm_X0_reads (n' - nS) (z' - zS)) s m args below meth c H locs (n - nS) (z - zS) (mMX below D n0 (moI r) S' M' n' args s (n' - nS) (z' - zS)) (F0 m 149 ls [.ref y0, .ref y1]) := by
  have hx := X.1.1
  have hb := X.1.2.1
  have hown := X.1.2.2.2.1
  have hts := X.1.2.2.2.2
  intro S M n z x0 y0 y1 H locs ls hn hz hp hl hF
  have hm0 := mn_X0_reads_149 hF
  unfold fb_X0_reads_149 at hF
  obtain ⟨M58, e59, hF⟩ := ob_s hF
  refine m_putWN X hp e59 kX1 (Nat.le_of_ble_eq_true rfl) q394 rfl rfl rfl dX0_reads_149 (fun H locs hp => ?_)
  refine lv_aload_n hx hb dX0_reads_152 rfl (lv_at hl 0 rfl) ?_
  obtain ⟨v60, e61, hF⟩ := ob_s hF
  refine m_getR X hp e61 kX0 (Nat.le_of_ble_eq_true rfl) q463 dX0_reads_153 ?_
  obtain ⟨v62, e63, hF⟩ := ob_s hF
  refine m_getRN X hp e63 kX1 (Nat.le_of_ble_eq_true rfl) q394 dX0_reads_156 ?_
  obtain ⟨g64, hF⟩ := gd_s hF
  obtain ⟨v66, e65, hF⟩ := ob_s hF
  refine m_callV (As := []) (rest := []) X hp (w_J2_size e65) q916 q808 q809 q138 q810 0 rfl ds_J2_size ⟨Nat.le_of_ble_eq_true rfl, Nat.le_of_ble_eq_true rfl⟩ 15 (T := TJ2) (N := 3) rfl (by decide) g64 hl.1 rfl (Nat.le_of_ble_eq_true rfl) dX0_reads_159 ⟨by show _ + 0 ≤ n' - nS; omega, by show _ + 0 ≤ z' - zS; omega⟩ (fun H locs hp => ?_)
  refine lv_istore_n (lv' := [(3, .int v66), (0, .ref x0)]) hx hb dX0_reads_162 rfl hl (by decide) rfl (fun ls hl => ?_)
  exact b_X0_reads_163 hV hVs hs hVx X hX _ _ _ _ _ _ _ _ _ (by omega) (by omega) hp (lv_sub hl [1, 0] rfl) hF
def fb_X0_reads_9 (V : Nat → Nat) (S : mSh) (M : mMm) (n z : Nat) (x0 : Nat) (x1 : Int32) (y0 : Nat) : Option ((Int32 ⊕ Nat) × mSh × mMm × Nat × Nat) := (if x1 = (0 : Int32) then ob (rR S M x0 1 4) fun v8 => gd ((S y0).1 = 7) (ob (f_X6_law V S M n z y0) fun ⟨o17, S14, M13, n15, z16⟩ => xk o17 S14 M13 n15 z16 fun v12 => (fb_X0_reads_44 V S14 M13 n15 z16 x0 v12 v8)) else (if x1 = (1 : Int32) then ob (rR S M x0 1 4) fun v21 => gd ((S y0).1 = 7) (ob (f_X6_stones V S M n z y0) fun ⟨o30, S27, M26, n28, z29⟩ => xk o30 S27 M26 n28 z29 fun v25 => (fb_X0_reads_66 V S27 M26 n28 z29 x0 y0 v25 v21)) else (if x1 = (2 : Int32) then ob (rR S M x0 1 4) fun v34 => gd ((S y0).1 = 7) (ob (f_X6_ways V S M n z y0) fun ⟨o43, S40, M39, n41, z42⟩ => xk o43 S40 M39 n41 z42 fun v38 => (fb_X0_reads_93 V S40 M39 n41 z42 x0 y0 v38 v34)) else ob (rR S M x0 1 4) fun v46 => gd ((S y0).1 = 7) (ob (f_X6_watches V S M n z y0) fun ⟨o55, S52, M51, n53, z54⟩ => xk o55 S52 M51 n53 z54 fun v50 => (fb_X0_reads_149 V S52 M51 n53 z54 x0 v50 v46)))))
theorem mn_X0_reads_9 {r : Int32 ⊕ Nat} {S' : mSh} {M' : mMm} {n' z' : Nat} : ∀ {S : mSh} {M : mMm} {n z : Nat} {x0 : Nat} {x1 : Int32} {y0 : Nat}, fb_X0_reads_9 V S M n z x0 x1 y0 = some (r, S', M', n', z') → n ≤ n' ∧ z ≤ z' := by
  intro S M n z x0 x1 y0 hF
  unfold fb_X0_reads_9 at hF
  by_cases c7 : x1 = (0 : Int32)
  · have hF := if_p c7 hF
    obtain ⟨v8, e9, hF⟩ := ob_s hF
    obtain ⟨g10, hF⟩ := gd_s hF
    obtain ⟨⟨o17, S14, M13, n15, z16⟩, e11, hF⟩ := ob_s hF
    have hc := mn_X6_law e11
    rcases xk_s hF with ⟨v12, h18, hF⟩ | ⟨q19, h18, hF⟩
    · subst h18
      have h9 := (mn_X0_reads_44 (V := V)) hF
      exact ⟨by omega, by omega⟩
    · subst h18
      cases hF
      exact ⟨by omega, by omega⟩
  · have hF := if_n c7 hF
    by_cases c20 : x1 = (1 : Int32)
    · have hF := if_p c20 hF
      obtain ⟨v21, e22, hF⟩ := ob_s hF
      obtain ⟨g23, hF⟩ := gd_s hF
      obtain ⟨⟨o30, S27, M26, n28, z29⟩, e24, hF⟩ := ob_s hF
      have hc := mn_X6_stones e24
      rcases xk_s hF with ⟨v25, h31, hF⟩ | ⟨q32, h31, hF⟩
      · subst h31
        have h9 := (mn_X0_reads_66 (V := V)) hF
        exact ⟨by omega, by omega⟩
      · subst h31
        cases hF
        exact ⟨by omega, by omega⟩
    · have hF := if_n c20 hF
      by_cases c33 : x1 = (2 : Int32)
      · have hF := if_p c33 hF
        obtain ⟨v34, e35, hF⟩ := ob_s hF
        obtain ⟨g36, hF⟩ := gd_s hF
        obtain ⟨⟨o43, S40, M39, n41, z42⟩, e37, hF⟩ := ob_s hF
        have hc := mn_X6_ways e37
        rcases xk_s hF with ⟨v38, h44, hF⟩ | ⟨q45, h44, hF⟩
        · subst h44
          have h9 := (mn_X0_reads_93 (V := V)) hF
          exact ⟨by omega, by omega⟩
        · subst h44
          cases hF
          exact ⟨by omega, by omega⟩
      · have hF := if_n c33 hF
        obtain ⟨v46, e47, hF⟩ := ob_s hF
        obtain ⟨g48, hF⟩ := gd_s hF
        obtain ⟨⟨o55, S52, M51, n53, z54⟩, e49, hF⟩ := ob_s hF
        have hc := mn_X6_watches e49
        rcases xk_s hF with ⟨v50, h56, hF⟩ | ⟨q57, h56, hF⟩
        · subst h56
          have h9 := (mn_X0_reads_149 (V := V)) hF
          exact ⟨by omega, by omega⟩
        · subst h56
          cases hF
          exact ⟨by omega, by omega⟩
theorem b_X0_reads_9 {r : Int32 ⊕ Nat} {S' : mSh} {M' : mMm} {n' z' : Nat} {nS zS : Nat} (hV : mV V n0 P) (hVs : mVs V n0 P) (hs : l.stackTraces = false) (hVx : mVx n0 P) (X : mCx D n0 P p m c cX0_reads 5 s args yX0_reads.cls meth (some .int)) (hX : ∀ x ∈ c.exceptionTable.toList, False) : ∀ (S : mSh) (M : mMm) (n z : Nat) (x0 : Nat) (x1 : Int32) (y0 : Nat) (H : Heap) (locs : List Loc) (ls : Array Slot), nS ≤ n → zS ≤ z → mHp D n0 S M n s H locs → lv_has ls 5 [(0, .ref x0), (1, .int x1)] → fb_X0_reads_9 V S M n z x0 x1 y0 = some (r, S', M', n', z') → W p l e (Rm_X0_reads (n' - nS) (z' - zS)) s m args below meth c H locs (n - nS) (z - zS) (mMX below D n0 (moI r) S' M' n' args s (n' - nS) (z' - zS)) (F0 m 9 ls [.ref y0]) := by
  have hx := X.1.1
  have hb := X.1.2.1
  have hown := X.1.2.2.2.1
  have hts := X.1.2.2.2.2
  intro S M n z x0 x1 y0 H locs ls hn hz hp hl hF
  have hm0 := mn_X0_reads_9 hF
  unfold fb_X0_reads_9 at hF
  refine lv_astore_n (lv' := [(2, .ref y0), (0, .ref x0), (1, .int x1)]) hx hb dX0_reads_9 rfl hl (by decide) rfl (fun ls hl => ?_)
  refine lv_iload_n hx hb dX0_reads_10 rfl (lv_at hl 2 rfl) ?_
  by_cases c7 : x1 = (0 : Int32)
  · have hF := if_p c7 hF
    refine lv_tableIn (x := x1) (tgt := 36) hx hb dX0_reads_11 (by rw [c7]; decide) (by rw [c7]; decide) (by rw [c7]; rfl) (by decide) ?_
    refine lv_aload_n hx hb dX0_reads_36 rfl (lv_at hl 1 rfl) ?_
    obtain ⟨v8, e9, hF⟩ := ob_s hF
    refine m_getR X hp e9 kX0 (Nat.le_of_ble_eq_true rfl) q463 dX0_reads_37 ?_
    refine lv_aload_n hx hb dX0_reads_40 rfl (lv_at hl 0 rfl) ?_
    obtain ⟨g10, hF⟩ := gd_s hF
    obtain ⟨⟨o17, S14, M13, n15, z16⟩, e11, hF⟩ := ob_s hF
    have hc := mn_X6_law e11
    rcases xk_s hF with ⟨v12, h18, hF⟩ | ⟨q19, h18, hF⟩
    · subst h18
      have hm := (mn_X0_reads_44 (V := V)) hF
      refine xm_callV (As := []) (rest := [.ref v8]) X hp (w_X6_law hV hVs hs hVx e11) q617 q618 q619 q148 q620 0 rfl ds_X6_law ⟨Nat.le_of_ble_eq_true rfl, Nat.le_of_ble_eq_true rfl⟩ 7 (T := TX6) (N := 10) rfl (by decide) g10 hl.1 rfl (Nat.le_of_ble_eq_true rfl) dX0_reads_41 ⟨by show _ ≤ n' - nS; omega, by show _ ≤ z' - zS; omega⟩ (fun H locs hp => ?_)
      refine W.widen (k := n15 - nS) (n := z16 - zS) (by omega) (by omega) ?_
      exact b_X0_reads_44 hV hVs hs hVx X hX _ _ _ _ _ _ _ _ _ _ (by omega) (by omega) hp (lv_sub hl [1] rfl) hF
    · subst h18
      cases hF
      exact xm_callVT (As := []) (rest := [.ref v8]) X hX hp (w_X6_law hV hVs hs hVx e11) q617 q618 q619 q148 q620 0 rfl ds_X6_law ⟨Nat.le_of_ble_eq_true rfl, Nat.le_of_ble_eq_true rfl⟩ 7 (T := TX6) (N := 10) rfl (by decide) g10 hl.1 rfl (Nat.le_of_ble_eq_true rfl) dX0_reads_41 ⟨by show _ ≤ n' - nS; omega, by show _ ≤ z' - zS; omega⟩ ⟨by omega, by omega⟩
  · have hF := if_n c7 hF
    by_cases c20 : x1 = (1 : Int32)
    · have hF := if_p c20 hF
      refine lv_tableIn (x := x1) (tgt := 58) hx hb dX0_reads_11 (by rw [c20]; decide) (by rw [c20]; decide) (by rw [c20]; rfl) (by decide) ?_
      refine lv_aload_n hx hb dX0_reads_58 rfl (lv_at hl 1 rfl) ?_
      obtain ⟨v21, e22, hF⟩ := ob_s hF
      refine m_getR X hp e22 kX0 (Nat.le_of_ble_eq_true rfl) q463 dX0_reads_59 ?_
      refine lv_aload_n hx hb dX0_reads_62 rfl (lv_at hl 0 rfl) ?_
      obtain ⟨g23, hF⟩ := gd_s hF
      obtain ⟨⟨o30, S27, M26, n28, z29⟩, e24, hF⟩ := ob_s hF
      have hc := mn_X6_stones e24
      rcases xk_s hF with ⟨v25, h31, hF⟩ | ⟨q32, h31, hF⟩
      · subst h31
        have hm := (mn_X0_reads_66 (V := V)) hF
        refine xm_callV (As := []) (rest := [.ref v21]) X hp (w_X6_stones hV hVs hs hVx e24) q917 q918 q919 q148 q920 0 rfl ds_X6_stones ⟨Nat.le_of_ble_eq_true rfl, Nat.le_of_ble_eq_true rfl⟩ 7 (T := TX6) (N := 10) rfl (by decide) g23 hl.1 rfl (Nat.le_of_ble_eq_true rfl) dX0_reads_63 ⟨by show _ ≤ n' - nS; omega, by show _ ≤ z' - zS; omega⟩ (fun H locs hp => ?_)
        refine W.widen (k := n28 - nS) (n := z29 - zS) (by omega) (by omega) ?_
        exact b_X0_reads_66 hV hVs hs hVx X hX _ _ _ _ _ _ _ _ _ _ _ (by omega) (by omega) hp (lv_sub hl [1, 0] rfl) hF
      · subst h31
        cases hF
        exact xm_callVT (As := []) (rest := [.ref v21]) X hX hp (w_X6_stones hV hVs hs hVx e24) q917 q918 q919 q148 q920 0 rfl ds_X6_stones ⟨Nat.le_of_ble_eq_true rfl, Nat.le_of_ble_eq_true rfl⟩ 7 (T := TX6) (N := 10) rfl (by decide) g23 hl.1 rfl (Nat.le_of_ble_eq_true rfl) dX0_reads_63 ⟨by show _ ≤ n' - nS; omega, by show _ ≤ z' - zS; omega⟩ ⟨by omega, by omega⟩
    · have hF := if_n c20 hF
      by_cases c33 : x1 = (2 : Int32)
      · have hF := if_p c33 hF
        refine lv_tableIn (x := x1) (tgt := 85) hx hb dX0_reads_11 (by rw [c33]; decide) (by rw [c33]; decide) (by rw [c33]; rfl) (by decide) ?_
        refine lv_aload_n hx hb dX0_reads_85 rfl (lv_at hl 1 rfl) ?_
        obtain ⟨v34, e35, hF⟩ := ob_s hF
        refine m_getR X hp e35 kX0 (Nat.le_of_ble_eq_true rfl) q463 dX0_reads_86 ?_
        refine lv_aload_n hx hb dX0_reads_89 rfl (lv_at hl 0 rfl) ?_
        obtain ⟨g36, hF⟩ := gd_s hF
        obtain ⟨⟨o43, S40, M39, n41, z42⟩, e37, hF⟩ := ob_s hF
        have hc := mn_X6_ways e37
        rcases xk_s hF with ⟨v38, h44, hF⟩ | ⟨q45, h44, hF⟩
        · subst h44
          have hm := (mn_X0_reads_93 (V := V)) hF
          refine xm_callV (As := []) (rest := [.ref v34]) X hp (w_X6_ways hV hVs hs hVx e37) q935 q936 q937 q148 q938 0 rfl ds_X6_ways ⟨Nat.le_of_ble_eq_true rfl, Nat.le_of_ble_eq_true rfl⟩ 7 (T := TX6) (N := 10) rfl (by decide) g36 hl.1 rfl (Nat.le_of_ble_eq_true rfl) dX0_reads_90 ⟨by show _ ≤ n' - nS; omega, by show _ ≤ z' - zS; omega⟩ (fun H locs hp => ?_)
          refine W.widen (k := n41 - nS) (n := z42 - zS) (by omega) (by omega) ?_
          exact b_X0_reads_93 hV hVs hs hVx X hX _ _ _ _ _ _ _ _ _ _ _ (by omega) (by omega) hp (lv_sub hl [1, 0] rfl) hF
        · subst h44
          cases hF
          exact xm_callVT (As := []) (rest := [.ref v34]) X hX hp (w_X6_ways hV hVs hs hVx e37) q935 q936 q937 q148 q938 0 rfl ds_X6_ways ⟨Nat.le_of_ble_eq_true rfl, Nat.le_of_ble_eq_true rfl⟩ 7 (T := TX6) (N := 10) rfl (by decide) g36 hl.1 rfl (Nat.le_of_ble_eq_true rfl) dX0_reads_90 ⟨by show _ ≤ n' - nS; omega, by show _ ≤ z' - zS; omega⟩ ⟨by omega, by omega⟩
      · have hF := if_n c33 hF
        refine lv_tableOut (x := x1) (tgt := 141) hx hb dX0_reads_11 (tb_out 2 (by decide) (by decide) (fun j hj => by
          match j, hj with
          | 0, _ => exact c7
          | 1, _ => exact c20
          | 2, _ => exact c33
          | j + 3, hj => exact absurd hj (by omega))) (by decide) ?_
        refine lv_aload_n hx hb dX0_reads_141 rfl (lv_at hl 1 rfl) ?_
        obtain ⟨v46, e47, hF⟩ := ob_s hF
        refine m_getR X hp e47 kX0 (Nat.le_of_ble_eq_true rfl) q463 dX0_reads_142 ?_
        refine lv_aload_n hx hb dX0_reads_145 rfl (lv_at hl 0 rfl) ?_
        obtain ⟨g48, hF⟩ := gd_s hF
        obtain ⟨⟨o55, S52, M51, n53, z54⟩, e49, hF⟩ := ob_s hF
        have hc := mn_X6_watches e49
        rcases xk_s hF with ⟨v50, h56, hF⟩ | ⟨q57, h56, hF⟩
        · subst h56
          have hm := (mn_X0_reads_149 (V := V)) hF
          refine xm_callV (As := []) (rest := [.ref v46]) X hp (w_X6_watches hV hVs hs hVx e49) q962 q963 q964 q148 q965 0 rfl ds_X6_watches ⟨Nat.le_of_ble_eq_true rfl, Nat.le_of_ble_eq_true rfl⟩ 7 (T := TX6) (N := 10) rfl (by decide) g48 hl.1 rfl (Nat.le_of_ble_eq_true rfl) dX0_reads_146 ⟨by show _ ≤ n' - nS; omega, by show _ ≤ z' - zS; omega⟩ (fun H locs hp => ?_)
          refine W.widen (k := n53 - nS) (n := z54 - zS) (by omega) (by omega) ?_
          exact b_X0_reads_149 hV hVs hs hVx X hX _ _ _ _ _ _ _ _ _ _ (by omega) (by omega) hp (lv_sub hl [1] rfl) hF
        · subst h56
          cases hF
          exact xm_callVT (As := []) (rest := [.ref v46]) X hX hp (w_X6_watches hV hVs hs hVx e49) q962 q963 q964 q148 q965 0 rfl ds_X6_watches ⟨Nat.le_of_ble_eq_true rfl, Nat.le_of_ble_eq_true rfl⟩ 7 (T := TX6) (N := 10) rfl (by decide) g48 hl.1 rfl (Nat.le_of_ble_eq_true rfl) dX0_reads_146 ⟨by show _ ≤ n' - nS; omega, by show _ ≤ z' - zS; omega⟩ ⟨by omega, by omega⟩
def fb_X0_reads_3 (V : Nat → Nat) (S : mSh) (M : mMm) (n z : Nat) (x0 : Nat) (x1 : Int32) (y0 : Nat) : Option ((Int32 ⊕ Nat) × mSh × mMm × Nat × Nat) := ob (f_X6_init V S M n z y0 x0 x1) fun ⟨S4, M3, n5, z6⟩ => (fb_X0_reads_9 V S4 M3 n5 z6 x0 x1 y0)
theorem mn_X0_reads_3 {r : Int32 ⊕ Nat} {S' : mSh} {M' : mMm} {n' z' : Nat} : ∀ {S : mSh} {M : mMm} {n z : Nat} {x0 : Nat} {x1 : Int32} {y0 : Nat}, fb_X0_reads_3 V S M n z x0 x1 y0 = some (r, S', M', n', z') → n ≤ n' ∧ z ≤ z' := by
  intro S M n z x0 x1 y0 hF
  unfold fb_X0_reads_3 at hF
  obtain ⟨⟨S4, M3, n5, z6⟩, e1, hF⟩ := ob_s hF
  have hc := mn_X6_init e1
  have h9 := (mn_X0_reads_9 (V := V)) hF
  exact ⟨by omega, by omega⟩
theorem b_X0_reads_3 {r : Int32 ⊕ Nat} {S' : mSh} {M' : mMm} {n' z' : Nat} {nS zS : Nat} (hV : mV V n0 P) (hVs : mVs V n0 P) (hs : l.stackTraces = false) (hVx : mVx n0 P) (X : mCx D n0 P p m c cX0_reads 5 s args yX0_reads.cls meth (some .int)) (hX : ∀ x ∈ c.exceptionTable.toList, False) : ∀ (S : mSh) (M : mMm) (n z : Nat) (x0 : Nat) (x1 : Int32) (y0 : Nat) (H : Heap) (locs : List Loc) (ls : Array Slot), nS ≤ n → zS ≤ z → mHp D n0 S M n s H locs → lv_has ls 5 [(0, .ref x0), (1, .int x1)] → fb_X0_reads_3 V S M n z x0 x1 y0 = some (r, S', M', n', z') → W p l e (Rm_X0_reads (n' - nS) (z' - zS)) s m args below meth c H locs (n - nS) (z - zS) (mMX below D n0 (moI r) S' M' n' args s (n' - nS) (z' - zS)) (F0 m 3 ls [.ref y0]) := by
  have hx := X.1.1
  have hb := X.1.2.1
  have hown := X.1.2.2.2.1
  have hts := X.1.2.2.2.2
  intro S M n z x0 x1 y0 H locs ls hn hz hp hl hF
  have hm0 := mn_X0_reads_3 hF
  unfold fb_X0_reads_3 at hF
  refine lv_dup hx hb dX0_reads_3 rfl ?_
  refine lv_aload_n hx hb dX0_reads_4 rfl (lv_at hl 0 rfl) ?_
  refine lv_iload_n hx hb dX0_reads_5 rfl (lv_at hl 1 rfl) ?_
  obtain ⟨⟨S4, M3, n5, z6⟩, e1, hF⟩ := ob_s hF
  have hc := mn_X6_init e1
  have hm := (mn_X0_reads_9 (V := V)) hF
  refine m_callI (As := [.ref x0, .int x1]) (rest := [.ref y0]) X hp (w_X6_init hV e1) q579 q580 q148 q581 rfl 2 rfl ds_X6_init ⟨Nat.le_of_ble_eq_true rfl, Nat.le_of_ble_eq_true rfl⟩ hl.1 rfl (Nat.le_of_ble_eq_true rfl) dX0_reads_6 ⟨by show _ ≤ n' - nS; omega, by show _ ≤ z' - zS; omega⟩ (fun H locs hp => ?_)
  refine W.widen (k := n5 - nS) (n := z6 - zS) (by omega) (by omega) ?_
  exact b_X0_reads_9 hV hVs hs hVx X hX _ _ _ _ _ _ _ _ _ _ (by omega) (by omega) hp (lv_sub hl [0, 1] rfl) hF
def fb_X0_reads_0 (V : Nat → Nat) (S : mSh) (M : mMm) (n z : Nat) (x0 : Nat) (x1 : Int32) : Option ((Int32 ⊕ Nat) × mSh × mMm × Nat × Nat) := (fb_X0_reads_3 V (mS1 S n (7, 0)) (mM1 M n fun k => defaultValue (tyX6 k)) (n + 1) (z + 10) x0 x1 n)
theorem mn_X0_reads_0 {r : Int32 ⊕ Nat} {S' : mSh} {M' : mMm} {n' z' : Nat} : ∀ {S : mSh} {M : mMm} {n z : Nat} {x0 : Nat} {x1 : Int32}, fb_X0_reads_0 V S M n z x0 x1 = some (r, S', M', n', z') → n ≤ n' ∧ z ≤ z' := by
  intro S M n z x0 x1 hF
  unfold fb_X0_reads_0 at hF
  have h9 := (mn_X0_reads_3 (V := V)) hF
  exact ⟨by omega, by omega⟩
theorem b_X0_reads_0 {r : Int32 ⊕ Nat} {S' : mSh} {M' : mMm} {n' z' : Nat} {nS zS : Nat} (hV : mV V n0 P) (hVs : mVs V n0 P) (hs : l.stackTraces = false) (hVx : mVx n0 P) (X : mCx D n0 P p m c cX0_reads 5 s args yX0_reads.cls meth (some .int)) (hX : ∀ x ∈ c.exceptionTable.toList, False) : ∀ (S : mSh) (M : mMm) (n z : Nat) (x0 : Nat) (x1 : Int32) (H : Heap) (locs : List Loc) (ls : Array Slot), nS ≤ n → zS ≤ z → mHp D n0 S M n s H locs → lv_has ls 5 [(0, .ref x0), (1, .int x1)] → fb_X0_reads_0 V S M n z x0 x1 = some (r, S', M', n', z') → W p l e (Rm_X0_reads (n' - nS) (z' - zS)) s m args below meth c H locs (n - nS) (z - zS) (mMX below D n0 (moI r) S' M' n' args s (n' - nS) (z' - zS)) (F0 m 0 ls []) := by
  have hx := X.1.1
  have hb := X.1.2.1
  have hown := X.1.2.2.2.1
  have hts := X.1.2.2.2.2
  intro S M n z x0 x1 H locs ls hn hz hp hl hF
  have hm0 := mn_X0_reads_0 hF
  unfold fb_X0_reads_0 at hF
  have hm := (mn_X0_reads_3 (V := V)) hF
  refine m_new X hp kX6 q577 q578 q148 (by show _ ≤ n' - nS; omega) (by show _ ≤ z' - zS; omega) dX0_reads_0 (fun H hp => ?_)
  refine W.widen (k := n + 1 - nS) (n := z + 10 - zS) (by omega) (by omega) ?_
  exact b_X0_reads_3 hV hVs hs hVx X hX _ _ _ _ _ _ _ _ _ _ (by omega) (by omega) hp (lv_sub hl [0, 1] rfl) hF
def f_X0_reads (V : Nat → Nat) (S : mSh) (M : mMm) (n z : Nat) (x0 : Nat) (x1 : Int32) : Option ((Int32 ⊕ Nat) × mSh × mMm × Nat × Nat) := (fb_X0_reads_0 V S M n z x0 x1)
theorem mn_X0_reads {x0 : Nat} {x1 : Int32} {r : Int32 ⊕ Nat} {S' : mSh} {M' : mMm} {n' z' : Nat} {S : mSh} {M : mMm} {n z : Nat} (hF : f_X0_reads V S M n z x0 x1 = some (r, S', M', n', z')) : n ≤ n' ∧ z ≤ z' := by
  unfold f_X0_reads at hF
  exact mn_X0_reads_0 hF
theorem w_X0_reads {x0 : Nat} {x1 : Int32} {r : Int32 ⊕ Nat} {S' : mSh} {M' : mMm} {n' z' : Nat} {S : mSh} {M : mMm} {n z : Nat} (hV : mV V n0 P) (hVs : mVs V n0 P) (hs : l.stackTraces = false) (hVx : mVx n0 P) (hF : f_X0_reads V S M n z x0 x1 = some (r, S', M', n', z')) : mXt l D n0 P yX0_reads cX0_reads 5 (some .int) 47 1060 (n' - n) (z' - z) [.ref x0, .int x1] S M n (moI r) S' M' n' := by
  refine m_ofX (by decide) (Nat.le_of_ble_eq_true rfl) (fun p e s m below meth c X hX hp ls hl => ?_)
  unfold f_X0_reads at hF
  refine W.widen (k := n - n) (n := z - z) (by omega) (by omega) ?_
  exact b_X0_reads_0 hV hVs hs hVx X hX _ _ _ _ _ _ _ _ _ (Nat.le_refl _) (Nat.le_refl _) hp hl hF
end
section
variable {l : Launch} {D : va_G} {n0 : Nat} {P : mP} {V : Nat → Nat} {p : Program} {e : Env} {s : State} {m : MethodId} {args : Array Value} {below : List Frame} {meth : Method} {c : Code}
abbrev Rm_X5_init (mc ms : Nat) : Room := { frames := 1, cells := mc, slots := ms, locals := 60 }
def fb_X5_init_213 (V : Nat → Nat) (S : mSh) (M : mMm) (n z : Nat) (y0 : Nat) (y1 : Nat) : Option (mSh × mMm × Nat × Nat) := ob (wF S M y1 6 39 (.ref y0)) fun M49 => some (S, M49, n, z)
theorem mn_X5_init_213 {S' : mSh} {M' : mMm} {n' z' : Nat} : ∀ {S : mSh} {M : mMm} {n z : Nat} {y0 : Nat} {y1 : Nat}, fb_X5_init_213 V S M n z y0 y1 = some (S', M', n', z') → n ≤ n' ∧ z ≤ z' := by
  intro S M n z y0 y1 hF
  unfold fb_X5_init_213 at hF
  obtain ⟨M49, e50, hF⟩ := ob_s hF
  cases hF
  exact ⟨Nat.le_refl _, Nat.le_refl _⟩
theorem b_X5_init_213 {S' : mSh} {M' : mMm} {n' z' : Nat} {nS zS : Nat} (hV : mV V n0 P) (hnm : meth.name = "<init>") (X : mCx D n0 P p m c cX5_init 1 s args yX5_init.cls meth none) : ∀ (S : mSh) (M : mMm) (n z : Nat) (y0 : Nat) (y1 : Nat) (H : Heap) (locs : List Loc) (ls : Array Slot), nS ≤ n → zS ≤ z → mHp D n0 S M n s H locs → lv_has ls 1 [] → fb_X5_init_213 V S M n z y0 y1 = some (S', M', n', z') → W p l e (Rm_X5_init (n' - nS) (z' - zS)) s m args below meth c H locs (n - nS) (z - zS) (MQ below (mQ D n0 none S' M' n') args s (n' - nS) (z' - zS) (mA n0)) (F0 m 213 ls [.ref y0, .ref y1]) := by
  have hx := X.1.1
  have hb := X.1.2.1
  have hown := X.1.2.2.2.1
  have hts := X.1.2.2.2.2
  intro S M n z y0 y1 H locs ls hn hz hp hl hF
  have hm0 := mn_X5_init_213 hF
  unfold fb_X5_init_213 at hF
  obtain ⟨M49, e50, hF⟩ := ob_s hF
  refine m_putWF X hp e50 kX5 (Nat.le_of_ble_eq_true rfl) q1498 rfl hnm rfl rfl rfl dX5_init_213 (fun H locs hp => ?_)
  cases hF
  exact m_vret X hp dX5_init_216
def fb_X5_init_204 (V : Nat → Nat) (S : mSh) (M : mMm) (n z : Nat) (x0 : Nat) (y0 : Nat) (y1 : Nat) : Option (mSh × mMm × Nat × Nat) := ob (wF S M y1 6 38 (.ref y0)) fun M47 => (fb_X5_init_213 V (mS1 S n (100, (3721 : Int32).toNatClampNeg)) (mM1 M47 n fun _ => .int 0) (n + 1) (z + (3721 : Int32).toNatClampNeg)  n x0)
theorem mn_X5_init_204 {S' : mSh} {M' : mMm} {n' z' : Nat} : ∀ {S : mSh} {M : mMm} {n z : Nat} {x0 : Nat} {y0 : Nat} {y1 : Nat}, fb_X5_init_204 V S M n z x0 y0 y1 = some (S', M', n', z') → n ≤ n' ∧ z ≤ z' := by
  intro S M n z x0 y0 y1 hF
  unfold fb_X5_init_204 at hF
  obtain ⟨M47, e48, hF⟩ := ob_s hF
  have h9 := (mn_X5_init_213 (V := V)) hF
  exact ⟨by omega, by omega⟩
theorem b_X5_init_204 {S' : mSh} {M' : mMm} {n' z' : Nat} {nS zS : Nat} (hV : mV V n0 P) (hnm : meth.name = "<init>") (X : mCx D n0 P p m c cX5_init 1 s args yX5_init.cls meth none) : ∀ (S : mSh) (M : mMm) (n z : Nat) (x0 : Nat) (y0 : Nat) (y1 : Nat) (H : Heap) (locs : List Loc) (ls : Array Slot), nS ≤ n → zS ≤ z → mHp D n0 S M n s H locs → lv_has ls 1 [(0, .ref x0)] → fb_X5_init_204 V S M n z x0 y0 y1 = some (S', M', n', z') → W p l e (Rm_X5_init (n' - nS) (z' - zS)) s m args below meth c H locs (n - nS) (z - zS) (MQ below (mQ D n0 none S' M' n') args s (n' - nS) (z' - zS) (mA n0)) (F0 m 204 ls [.ref y0, .ref y1]) := by
  have hx := X.1.1
  have hb := X.1.2.1
  have hown := X.1.2.2.2.1
  have hts := X.1.2.2.2.2
  intro S M n z x0 y0 y1 H locs ls hn hz hp hl hF
  have hm0 := mn_X5_init_204 hF
  unfold fb_X5_init_204 at hF
  obtain ⟨M47, e48, hF⟩ := ob_s hF
  refine m_putWF X hp e48 kX5 (Nat.le_of_ble_eq_true rfl) q1497 rfl hnm rfl rfl rfl dX5_init_204 (fun H locs hp => ?_)
  refine lv_aload_n hx hb dX5_init_207 rfl (lv_at hl 0 rfl) ?_
  refine lv_sipush (v := 3721) hx hb dX5_init_208 (by decide) ?_
  have hm := (mn_X5_init_213 (V := V)) hF
  refine m_newa X hp 100 (atype := .int) rfl (by decide) (fun h => h) q201 (by decide) (by decide) rfl (by show _ ≤ n' - nS; omega) (by show _ ≤ z' - zS; omega) dX5_init_211 (fun H hp => ?_)
  refine W.widen (k := n + 1 - nS) (n := z + (3721 : Int32).toNatClampNeg - zS) (by omega) (by omega) ?_
  exact b_X5_init_213 hV hnm X _ _ _ _  _ _ _ _ _ (by omega) (by omega) hp (lv_sub hl [] rfl) hF
def fb_X5_init_195 (V : Nat → Nat) (S : mSh) (M : mMm) (n z : Nat) (x0 : Nat) (y0 : Nat) (y1 : Nat) : Option (mSh × mMm × Nat × Nat) := ob (wF S M y1 6 37 (.ref y0)) fun M45 => (fb_X5_init_204 V (mS1 S n (100, (144 : Int32).toNatClampNeg)) (mM1 M45 n fun _ => .int 0) (n + 1) (z + (144 : Int32).toNatClampNeg) x0 n x0)
theorem mn_X5_init_195 {S' : mSh} {M' : mMm} {n' z' : Nat} : ∀ {S : mSh} {M : mMm} {n z : Nat} {x0 : Nat} {y0 : Nat} {y1 : Nat}, fb_X5_init_195 V S M n z x0 y0 y1 = some (S', M', n', z') → n ≤ n' ∧ z ≤ z' := by
  intro S M n z x0 y0 y1 hF
  unfold fb_X5_init_195 at hF
  obtain ⟨M45, e46, hF⟩ := ob_s hF
  have h9 := (mn_X5_init_204 (V := V)) hF
  exact ⟨by omega, by omega⟩
theorem b_X5_init_195 {S' : mSh} {M' : mMm} {n' z' : Nat} {nS zS : Nat} (hV : mV V n0 P) (hnm : meth.name = "<init>") (X : mCx D n0 P p m c cX5_init 1 s args yX5_init.cls meth none) : ∀ (S : mSh) (M : mMm) (n z : Nat) (x0 : Nat) (y0 : Nat) (y1 : Nat) (H : Heap) (locs : List Loc) (ls : Array Slot), nS ≤ n → zS ≤ z → mHp D n0 S M n s H locs → lv_has ls 1 [(0, .ref x0)] → fb_X5_init_195 V S M n z x0 y0 y1 = some (S', M', n', z') → W p l e (Rm_X5_init (n' - nS) (z' - zS)) s m args below meth c H locs (n - nS) (z - zS) (MQ below (mQ D n0 none S' M' n') args s (n' - nS) (z' - zS) (mA n0)) (F0 m 195 ls [.ref y0, .ref y1]) := by
  have hx := X.1.1
  have hb := X.1.2.1
  have hown := X.1.2.2.2.1
  have hts := X.1.2.2.2.2
  intro S M n z x0 y0 y1 H locs ls hn hz hp hl hF
  have hm0 := mn_X5_init_195 hF
  unfold fb_X5_init_195 at hF
  obtain ⟨M45, e46, hF⟩ := ob_s hF
  refine m_putWF X hp e46 kX5 (Nat.le_of_ble_eq_true rfl) q1496 rfl hnm rfl rfl rfl dX5_init_195 (fun H locs hp => ?_)
  refine lv_aload_n hx hb dX5_init_198 rfl (lv_at hl 0 rfl) ?_
  refine lv_sipush (v := 144) hx hb dX5_init_199 (by decide) ?_
  have hm := (mn_X5_init_204 (V := V)) hF
  refine m_newa X hp 100 (atype := .int) rfl (by decide) (fun h => h) q201 (by decide) (by decide) rfl (by show _ ≤ n' - nS; omega) (by show _ ≤ z' - zS; omega) dX5_init_202 (fun H hp => ?_)
  refine W.widen (k := n + 1 - nS) (n := z + (144 : Int32).toNatClampNeg - zS) (by omega) (by omega) ?_
  exact b_X5_init_204 hV hnm X _ _ _ _ _ _ _ _ _ _ (by omega) (by omega) hp (lv_sub hl [0] rfl) hF
def fb_X5_init_186 (V : Nat → Nat) (S : mSh) (M : mMm) (n z : Nat) (x0 : Nat) (y0 : Nat) (y1 : Nat) : Option (mSh × mMm × Nat × Nat) := ob (wF S M y1 6 36 (.ref y0)) fun M43 => (fb_X5_init_195 V (mS1 S n (100, (144 : Int32).toNatClampNeg)) (mM1 M43 n fun _ => .int 0) (n + 1) (z + (144 : Int32).toNatClampNeg) x0 n x0)
theorem mn_X5_init_186 {S' : mSh} {M' : mMm} {n' z' : Nat} : ∀ {S : mSh} {M : mMm} {n z : Nat} {x0 : Nat} {y0 : Nat} {y1 : Nat}, fb_X5_init_186 V S M n z x0 y0 y1 = some (S', M', n', z') → n ≤ n' ∧ z ≤ z' := by
  intro S M n z x0 y0 y1 hF
  unfold fb_X5_init_186 at hF
  obtain ⟨M43, e44, hF⟩ := ob_s hF
  have h9 := (mn_X5_init_195 (V := V)) hF
  exact ⟨by omega, by omega⟩
theorem b_X5_init_186 {S' : mSh} {M' : mMm} {n' z' : Nat} {nS zS : Nat} (hV : mV V n0 P) (hnm : meth.name = "<init>") (X : mCx D n0 P p m c cX5_init 1 s args yX5_init.cls meth none) : ∀ (S : mSh) (M : mMm) (n z : Nat) (x0 : Nat) (y0 : Nat) (y1 : Nat) (H : Heap) (locs : List Loc) (ls : Array Slot), nS ≤ n → zS ≤ z → mHp D n0 S M n s H locs → lv_has ls 1 [(0, .ref x0)] → fb_X5_init_186 V S M n z x0 y0 y1 = some (S', M', n', z') → W p l e (Rm_X5_init (n' - nS) (z' - zS)) s m args below meth c H locs (n - nS) (z - zS) (MQ below (mQ D n0 none S' M' n') args s (n' - nS) (z' - zS) (mA n0)) (F0 m 186 ls [.ref y0, .ref y1]) := by
  have hx := X.1.1
  have hb := X.1.2.1
  have hown := X.1.2.2.2.1
  have hts := X.1.2.2.2.2
  intro S M n z x0 y0 y1 H locs ls hn hz hp hl hF
  have hm0 := mn_X5_init_186 hF
  unfold fb_X5_init_186 at hF
  obtain ⟨M43, e44, hF⟩ := ob_s hF
  refine m_putWF X hp e44 kX5 (Nat.le_of_ble_eq_true rfl) q1495 rfl hnm rfl rfl rfl dX5_init_186 (fun H locs hp => ?_)
  refine lv_aload_n hx hb dX5_init_189 rfl (lv_at hl 0 rfl) ?_
  refine lv_sipush (v := 144) hx hb dX5_init_190 (by decide) ?_
  have hm := (mn_X5_init_195 (V := V)) hF
  refine m_newa X hp 100 (atype := .int) rfl (by decide) (fun h => h) q201 (by decide) (by decide) rfl (by show _ ≤ n' - nS; omega) (by show _ ≤ z' - zS; omega) dX5_init_193 (fun H hp => ?_)
  refine W.widen (k := n + 1 - nS) (n := z + (144 : Int32).toNatClampNeg - zS) (by omega) (by omega) ?_
  exact b_X5_init_195 hV hnm X _ _ _ _ _ _ _ _ _ _ (by omega) (by omega) hp (lv_sub hl [0] rfl) hF
def fb_X5_init_179 (V : Nat → Nat) (S : mSh) (M : mMm) (n z : Nat) (x0 : Nat) (y0 : Nat) (y1 : Nat) : Option (mSh × mMm × Nat × Nat) := ob (wF S M y1 6 35 (.ref y0)) fun M41 => (fb_X5_init_186 V (mS1 S n (100, (4 : Int32).toNatClampNeg)) (mM1 M41 n fun _ => .int 0) (n + 1) (z + (4 : Int32).toNatClampNeg) x0 n x0)
theorem mn_X5_init_179 {S' : mSh} {M' : mMm} {n' z' : Nat} : ∀ {S : mSh} {M : mMm} {n z : Nat} {x0 : Nat} {y0 : Nat} {y1 : Nat}, fb_X5_init_179 V S M n z x0 y0 y1 = some (S', M', n', z') → n ≤ n' ∧ z ≤ z' := by
  intro S M n z x0 y0 y1 hF
  unfold fb_X5_init_179 at hF
  obtain ⟨M41, e42, hF⟩ := ob_s hF
  have h9 := (mn_X5_init_186 (V := V)) hF
  exact ⟨by omega, by omega⟩
theorem b_X5_init_179 {S' : mSh} {M' : mMm} {n' z' : Nat} {nS zS : Nat} (hV : mV V n0 P) (hnm : meth.name = "<init>") (X : mCx D n0 P p m c cX5_init 1 s args yX5_init.cls meth none) : ∀ (S : mSh) (M : mMm) (n z : Nat) (x0 : Nat) (y0 : Nat) (y1 : Nat) (H : Heap) (locs : List Loc) (ls : Array Slot), nS ≤ n → zS ≤ z → mHp D n0 S M n s H locs → lv_has ls 1 [(0, .ref x0)] → fb_X5_init_179 V S M n z x0 y0 y1 = some (S', M', n', z') → W p l e (Rm_X5_init (n' - nS) (z' - zS)) s m args below meth c H locs (n - nS) (z - zS) (MQ below (mQ D n0 none S' M' n') args s (n' - nS) (z' - zS) (mA n0)) (F0 m 179 ls [.ref y0, .ref y1]) := by
  have hx := X.1.1
  have hb := X.1.2.1
  have hown := X.1.2.2.2.1
  have hts := X.1.2.2.2.2
  intro S M n z x0 y0 y1 H locs ls hn hz hp hl hF
  have hm0 := mn_X5_init_179 hF
  unfold fb_X5_init_179 at hF
  obtain ⟨M41, e42, hF⟩ := ob_s hF
  refine m_putWF X hp e42 kX5 (Nat.le_of_ble_eq_true rfl) q1494 rfl hnm rfl rfl rfl dX5_init_179 (fun H locs hp => ?_)
  refine lv_aload_n hx hb dX5_init_182 rfl (lv_at hl 0 rfl) ?_
  refine lv_iconst (v := 4) hx hb dX5_init_183 (by decide) ?_
  have hm := (mn_X5_init_186 (V := V)) hF
  refine m_newa X hp 100 (atype := .int) rfl (by decide) (fun h => h) q201 (by decide) (by decide) rfl (by show _ ≤ n' - nS; omega) (by show _ ≤ z' - zS; omega) dX5_init_184 (fun H hp => ?_)
  refine W.widen (k := n + 1 - nS) (n := z + (4 : Int32).toNatClampNeg - zS) (by omega) (by omega) ?_
  exact b_X5_init_186 hV hnm X _ _ _ _ _ _ _ _ _ _ (by omega) (by omega) hp (lv_sub hl [0] rfl) hF
def fb_X5_init_172 (V : Nat → Nat) (S : mSh) (M : mMm) (n z : Nat) (x0 : Nat) (y0 : Nat) (y1 : Nat) : Option (mSh × mMm × Nat × Nat) := ob (wF S M y1 6 34 (.ref y0)) fun M39 => (fb_X5_init_179 V (mS1 S n (100, (4 : Int32).toNatClampNeg)) (mM1 M39 n fun _ => .int 0) (n + 1) (z + (4 : Int32).toNatClampNeg) x0 n x0)
theorem mn_X5_init_172 {S' : mSh} {M' : mMm} {n' z' : Nat} : ∀ {S : mSh} {M : mMm} {n z : Nat} {x0 : Nat} {y0 : Nat} {y1 : Nat}, fb_X5_init_172 V S M n z x0 y0 y1 = some (S', M', n', z') → n ≤ n' ∧ z ≤ z' := by
  intro S M n z x0 y0 y1 hF
  unfold fb_X5_init_172 at hF
  obtain ⟨M39, e40, hF⟩ := ob_s hF
  have h9 := (mn_X5_init_179 (V := V)) hF
  exact ⟨by omega, by omega⟩
theorem b_X5_init_172 {S' : mSh} {M' : mMm} {n' z' : Nat} {nS zS : Nat} (hV : mV V n0 P) (hnm : meth.name = "<init>") (X : mCx D n0 P p m c cX5_init 1 s args yX5_init.cls meth none) : ∀ (S : mSh) (M : mMm) (n z : Nat) (x0 : Nat) (y0 : Nat) (y1 : Nat) (H : Heap) (locs : List Loc) (ls : Array Slot), nS ≤ n → zS ≤ z → mHp D n0 S M n s H locs → lv_has ls 1 [(0, .ref x0)] → fb_X5_init_172 V S M n z x0 y0 y1 = some (S', M', n', z') → W p l e (Rm_X5_init (n' - nS) (z' - zS)) s m args below meth c H locs (n - nS) (z - zS) (MQ below (mQ D n0 none S' M' n') args s (n' - nS) (z' - zS) (mA n0)) (F0 m 172 ls [.ref y0, .ref y1]) := by
  have hx := X.1.1
  have hb := X.1.2.1
  have hown := X.1.2.2.2.1
  have hts := X.1.2.2.2.2
  intro S M n z x0 y0 y1 H locs ls hn hz hp hl hF
  have hm0 := mn_X5_init_172 hF
  unfold fb_X5_init_172 at hF
  obtain ⟨M39, e40, hF⟩ := ob_s hF
  refine m_putWF X hp e40 kX5 (Nat.le_of_ble_eq_true rfl) q1493 rfl hnm rfl rfl rfl dX5_init_172 (fun H locs hp => ?_)
  refine lv_aload_n hx hb dX5_init_175 rfl (lv_at hl 0 rfl) ?_
  refine lv_iconst (v := 4) hx hb dX5_init_176 (by decide) ?_
  have hm := (mn_X5_init_179 (V := V)) hF
  refine m_newa X hp 100 (atype := .int) rfl (by decide) (fun h => h) q201 (by decide) (by decide) rfl (by show _ ≤ n' - nS; omega) (by show _ ≤ z' - zS; omega) dX5_init_177 (fun H hp => ?_)
  refine W.widen (k := n + 1 - nS) (n := z + (4 : Int32).toNatClampNeg - zS) (by omega) (by omega) ?_
  exact b_X5_init_179 hV hnm X _ _ _ _ _ _ _ _ _ _ (by omega) (by omega) hp (lv_sub hl [0] rfl) hF
def fb_X5_init_163 (V : Nat → Nat) (S : mSh) (M : mMm) (n z : Nat) (x0 : Nat) (y0 : Nat) (y1 : Nat) : Option (mSh × mMm × Nat × Nat) := ob (wF S M y1 6 33 (.ref y0)) fun M37 => (fb_X5_init_172 V (mS1 S n (100, (16384 : Int32).toNatClampNeg)) (mM1 M37 n fun _ => .int 0) (n + 1) (z + (16384 : Int32).toNatClampNeg) x0 n x0)
theorem mn_X5_init_163 {S' : mSh} {M' : mMm} {n' z' : Nat} : ∀ {S : mSh} {M : mMm} {n z : Nat} {x0 : Nat} {y0 : Nat} {y1 : Nat}, fb_X5_init_163 V S M n z x0 y0 y1 = some (S', M', n', z') → n ≤ n' ∧ z ≤ z' := by
  intro S M n z x0 y0 y1 hF
  unfold fb_X5_init_163 at hF
  obtain ⟨M37, e38, hF⟩ := ob_s hF
  have h9 := (mn_X5_init_172 (V := V)) hF
  exact ⟨by omega, by omega⟩
theorem b_X5_init_163 {S' : mSh} {M' : mMm} {n' z' : Nat} {nS zS : Nat} (hV : mV V n0 P) (hnm : meth.name = "<init>") (X : mCx D n0 P p m c cX5_init 1 s args yX5_init.cls meth none) : ∀ (S : mSh) (M : mMm) (n z : Nat) (x0 : Nat) (y0 : Nat) (y1 : Nat) (H : Heap) (locs : List Loc) (ls : Array Slot), nS ≤ n → zS ≤ z → mHp D n0 S M n s H locs → lv_has ls 1 [(0, .ref x0)] → fb_X5_init_163 V S M n z x0 y0 y1 = some (S', M', n', z') → W p l e (Rm_X5_init (n' - nS) (z' - zS)) s m args below meth c H locs (n - nS) (z - zS) (MQ below (mQ D n0 none S' M' n') args s (n' - nS) (z' - zS) (mA n0)) (F0 m 163 ls [.ref y0, .ref y1]) := by
  have hx := X.1.1
  have hb := X.1.2.1
  have hown := X.1.2.2.2.1
  have hts := X.1.2.2.2.2
  intro S M n z x0 y0 y1 H locs ls hn hz hp hl hF
  have hm0 := mn_X5_init_163 hF
  unfold fb_X5_init_163 at hF
  obtain ⟨M37, e38, hF⟩ := ob_s hF
  refine m_putWF X hp e38 kX5 (Nat.le_of_ble_eq_true rfl) q1492 rfl hnm rfl rfl rfl dX5_init_163 (fun H locs hp => ?_)
  refine lv_aload_n hx hb dX5_init_166 rfl (lv_at hl 0 rfl) ?_
  refine lv_sipush (v := 16384) hx hb dX5_init_167 (by decide) ?_
  have hm := (mn_X5_init_172 (V := V)) hF
  refine m_newa X hp 100 (atype := .int) rfl (by decide) (fun h => h) q201 (by decide) (by decide) rfl (by show _ ≤ n' - nS; omega) (by show _ ≤ z' - zS; omega) dX5_init_170 (fun H hp => ?_)
  refine W.widen (k := n + 1 - nS) (n := z + (16384 : Int32).toNatClampNeg - zS) (by omega) (by omega) ?_
  exact b_X5_init_172 hV hnm X _ _ _ _ _ _ _ _ _ _ (by omega) (by omega) hp (lv_sub hl [0] rfl) hF
def fb_X5_init_154 (V : Nat → Nat) (S : mSh) (M : mMm) (n z : Nat) (x0 : Nat) (y0 : Nat) (y1 : Nat) : Option (mSh × mMm × Nat × Nat) := ob (wF S M y1 6 32 (.ref y0)) fun M35 => (fb_X5_init_163 V (mS1 S n (100, (14641 : Int32).toNatClampNeg)) (mM1 M35 n fun _ => .int 0) (n + 1) (z + (14641 : Int32).toNatClampNeg) x0 n x0)
theorem mn_X5_init_154 {S' : mSh} {M' : mMm} {n' z' : Nat} : ∀ {S : mSh} {M : mMm} {n z : Nat} {x0 : Nat} {y0 : Nat} {y1 : Nat}, fb_X5_init_154 V S M n z x0 y0 y1 = some (S', M', n', z') → n ≤ n' ∧ z ≤ z' := by
  intro S M n z x0 y0 y1 hF
  unfold fb_X5_init_154 at hF
  obtain ⟨M35, e36, hF⟩ := ob_s hF
  have h9 := (mn_X5_init_163 (V := V)) hF
  exact ⟨by omega, by omega⟩
theorem b_X5_init_154 {S' : mSh} {M' : mMm} {n' z' : Nat} {nS zS : Nat} (hV : mV V n0 P) (hnm : meth.name = "<init>") (X : mCx D n0 P p m c cX5_init 1 s args yX5_init.cls meth none) : ∀ (S : mSh) (M : mMm) (n z : Nat) (x0 : Nat) (y0 : Nat) (y1 : Nat) (H : Heap) (locs : List Loc) (ls : Array Slot), nS ≤ n → zS ≤ z → mHp D n0 S M n s H locs → lv_has ls 1 [(0, .ref x0)] → fb_X5_init_154 V S M n z x0 y0 y1 = some (S', M', n', z') → W p l e (Rm_X5_init (n' - nS) (z' - zS)) s m args below meth c H locs (n - nS) (z - zS) (MQ below (mQ D n0 none S' M' n') args s (n' - nS) (z' - zS) (mA n0)) (F0 m 154 ls [.ref y0, .ref y1]) := by
  have hx := X.1.1
  have hb := X.1.2.1
  have hown := X.1.2.2.2.1
  have hts := X.1.2.2.2.2
  intro S M n z x0 y0 y1 H locs ls hn hz hp hl hF
  have hm0 := mn_X5_init_154 hF
  unfold fb_X5_init_154 at hF
  obtain ⟨M35, e36, hF⟩ := ob_s hF
  refine m_putWF X hp e36 kX5 (Nat.le_of_ble_eq_true rfl) q1491 rfl hnm rfl rfl rfl dX5_init_154 (fun H locs hp => ?_)
  refine lv_aload_n hx hb dX5_init_157 rfl (lv_at hl 0 rfl) ?_
  refine lv_sipush (v := 14641) hx hb dX5_init_158 (by decide) ?_
  have hm := (mn_X5_init_163 (V := V)) hF
  refine m_newa X hp 100 (atype := .int) rfl (by decide) (fun h => h) q201 (by decide) (by decide) rfl (by show _ ≤ n' - nS; omega) (by show _ ≤ z' - zS; omega) dX5_init_161 (fun H hp => ?_)
  refine W.widen (k := n + 1 - nS) (n := z + (14641 : Int32).toNatClampNeg - zS) (by omega) (by omega) ?_
  exact b_X5_init_163 hV hnm X _ _ _ _ _ _ _ _ _ _ (by omega) (by omega) hp (lv_sub hl [0] rfl) hF
def fb_X5_init_146 (V : Nat → Nat) (S : mSh) (M : mMm) (n z : Nat) (x0 : Nat) (y0 : Nat) (y1 : Nat) : Option (mSh × mMm × Nat × Nat) := ob (wF S M y1 6 31 (.ref y0)) fun M33 => (fb_X5_init_154 V (mS1 S n (100, (31 : Int32).toNatClampNeg)) (mM1 M33 n fun _ => .int 0) (n + 1) (z + (31 : Int32).toNatClampNeg) x0 n x0)
theorem mn_X5_init_146 {S' : mSh} {M' : mMm} {n' z' : Nat} : ∀ {S : mSh} {M : mMm} {n z : Nat} {x0 : Nat} {y0 : Nat} {y1 : Nat}, fb_X5_init_146 V S M n z x0 y0 y1 = some (S', M', n', z') → n ≤ n' ∧ z ≤ z' := by
  intro S M n z x0 y0 y1 hF
  unfold fb_X5_init_146 at hF
  obtain ⟨M33, e34, hF⟩ := ob_s hF
  have h9 := (mn_X5_init_154 (V := V)) hF
  exact ⟨by omega, by omega⟩
theorem b_X5_init_146 {S' : mSh} {M' : mMm} {n' z' : Nat} {nS zS : Nat} (hV : mV V n0 P) (hnm : meth.name = "<init>") (X : mCx D n0 P p m c cX5_init 1 s args yX5_init.cls meth none) : ∀ (S : mSh) (M : mMm) (n z : Nat) (x0 : Nat) (y0 : Nat) (y1 : Nat) (H : Heap) (locs : List Loc) (ls : Array Slot), nS ≤ n → zS ≤ z → mHp D n0 S M n s H locs → lv_has ls 1 [(0, .ref x0)] → fb_X5_init_146 V S M n z x0 y0 y1 = some (S', M', n', z') → W p l e (Rm_X5_init (n' - nS) (z' - zS)) s m args below meth c H locs (n - nS) (z - zS) (MQ below (mQ D n0 none S' M' n') args s (n' - nS) (z' - zS) (mA n0)) (F0 m 146 ls [.ref y0, .ref y1]) := by
  have hx := X.1.1
  have hb := X.1.2.1
  have hown := X.1.2.2.2.1
  have hts := X.1.2.2.2.2
  intro S M n z x0 y0 y1 H locs ls hn hz hp hl hF
  have hm0 := mn_X5_init_146 hF
  unfold fb_X5_init_146 at hF
  obtain ⟨M33, e34, hF⟩ := ob_s hF
  refine m_putWF X hp e34 kX5 (Nat.le_of_ble_eq_true rfl) q1490 rfl hnm rfl rfl rfl dX5_init_146 (fun H locs hp => ?_)
  refine lv_aload_n hx hb dX5_init_149 rfl (lv_at hl 0 rfl) ?_
  refine lv_bipush (v := 31) hx hb dX5_init_150 (by decide) ?_
  have hm := (mn_X5_init_154 (V := V)) hF
  refine m_newa X hp 100 (atype := .int) rfl (by decide) (fun h => h) q201 (by decide) (by decide) rfl (by show _ ≤ n' - nS; omega) (by show _ ≤ z' - zS; omega) dX5_init_152 (fun H hp => ?_)
  refine W.widen (k := n + 1 - nS) (n := z + (31 : Int32).toNatClampNeg - zS) (by omega) (by omega) ?_
  exact b_X5_init_154 hV hnm X _ _ _ _ _ _ _ _ _ _ (by omega) (by omega) hp (lv_sub hl [0] rfl) hF
def fb_X5_init_138 (V : Nat → Nat) (S : mSh) (M : mMm) (n z : Nat) (x0 : Nat) (y0 : Nat) (y1 : Nat) : Option (mSh × mMm × Nat × Nat) := ob (wF S M y1 6 27 (.ref y0)) fun M31 => (fb_X5_init_146 V (mS1 S n (100, (31 : Int32).toNatClampNeg)) (mM1 M31 n fun _ => .int 0) (n + 1) (z + (31 : Int32).toNatClampNeg) x0 n x0)
theorem mn_X5_init_138 {S' : mSh} {M' : mMm} {n' z' : Nat} : ∀ {S : mSh} {M : mMm} {n z : Nat} {x0 : Nat} {y0 : Nat} {y1 : Nat}, fb_X5_init_138 V S M n z x0 y0 y1 = some (S', M', n', z') → n ≤ n' ∧ z ≤ z' := by
  intro S M n z x0 y0 y1 hF
  unfold fb_X5_init_138 at hF
  obtain ⟨M31, e32, hF⟩ := ob_s hF
  have h9 := (mn_X5_init_146 (V := V)) hF
  exact ⟨by omega, by omega⟩
theorem b_X5_init_138 {S' : mSh} {M' : mMm} {n' z' : Nat} {nS zS : Nat} (hV : mV V n0 P) (hnm : meth.name = "<init>") (X : mCx D n0 P p m c cX5_init 1 s args yX5_init.cls meth none) : ∀ (S : mSh) (M : mMm) (n z : Nat) (x0 : Nat) (y0 : Nat) (y1 : Nat) (H : Heap) (locs : List Loc) (ls : Array Slot), nS ≤ n → zS ≤ z → mHp D n0 S M n s H locs → lv_has ls 1 [(0, .ref x0)] → fb_X5_init_138 V S M n z x0 y0 y1 = some (S', M', n', z') → W p l e (Rm_X5_init (n' - nS) (z' - zS)) s m args below meth c H locs (n - nS) (z - zS) (MQ below (mQ D n0 none S' M' n') args s (n' - nS) (z' - zS) (mA n0)) (F0 m 138 ls [.ref y0, .ref y1]) := by
  have hx := X.1.1
  have hb := X.1.2.1
  have hown := X.1.2.2.2.1
  have hts := X.1.2.2.2.2
  intro S M n z x0 y0 y1 H locs ls hn hz hp hl hF
  have hm0 := mn_X5_init_138 hF
  unfold fb_X5_init_138 at hF
  obtain ⟨M31, e32, hF⟩ := ob_s hF
  refine m_putWF X hp e32 kX5 (Nat.le_of_ble_eq_true rfl) q1486 rfl hnm rfl rfl rfl dX5_init_138 (fun H locs hp => ?_)
  refine lv_aload_n hx hb dX5_init_141 rfl (lv_at hl 0 rfl) ?_
  refine lv_bipush (v := 31) hx hb dX5_init_142 (by decide) ?_
  have hm := (mn_X5_init_146 (V := V)) hF
  refine m_newa X hp 100 (atype := .int) rfl (by decide) (fun h => h) q201 (by decide) (by decide) rfl (by show _ ≤ n' - nS; omega) (by show _ ≤ z' - zS; omega) dX5_init_144 (fun H hp => ?_)
  refine W.widen (k := n + 1 - nS) (n := z + (31 : Int32).toNatClampNeg - zS) (by omega) (by omega) ?_
  exact b_X5_init_146 hV hnm X _ _ _ _ _ _ _ _ _ _ (by omega) (by omega) hp (lv_sub hl [0] rfl) hF
def fb_X5_init_130 (V : Nat → Nat) (S : mSh) (M : mMm) (n z : Nat) (x0 : Nat) (y0 : Nat) (y1 : Nat) : Option (mSh × mMm × Nat × Nat) := ob (wF S M y1 6 26 (.ref y0)) fun M29 => (fb_X5_init_138 V (mS1 S n (100, (25 : Int32).toNatClampNeg)) (mM1 M29 n fun _ => .int 0) (n + 1) (z + (25 : Int32).toNatClampNeg) x0 n x0)
theorem mn_X5_init_130 {S' : mSh} {M' : mMm} {n' z' : Nat} : ∀ {S : mSh} {M : mMm} {n z : Nat} {x0 : Nat} {y0 : Nat} {y1 : Nat}, fb_X5_init_130 V S M n z x0 y0 y1 = some (S', M', n', z') → n ≤ n' ∧ z ≤ z' := by
  intro S M n z x0 y0 y1 hF
  unfold fb_X5_init_130 at hF
  obtain ⟨M29, e30, hF⟩ := ob_s hF
  have h9 := (mn_X5_init_138 (V := V)) hF
  exact ⟨by omega, by omega⟩
theorem b_X5_init_130 {S' : mSh} {M' : mMm} {n' z' : Nat} {nS zS : Nat} (hV : mV V n0 P) (hnm : meth.name = "<init>") (X : mCx D n0 P p m c cX5_init 1 s args yX5_init.cls meth none) : ∀ (S : mSh) (M : mMm) (n z : Nat) (x0 : Nat) (y0 : Nat) (y1 : Nat) (H : Heap) (locs : List Loc) (ls : Array Slot), nS ≤ n → zS ≤ z → mHp D n0 S M n s H locs → lv_has ls 1 [(0, .ref x0)] → fb_X5_init_130 V S M n z x0 y0 y1 = some (S', M', n', z') → W p l e (Rm_X5_init (n' - nS) (z' - zS)) s m args below meth c H locs (n - nS) (z - zS) (MQ below (mQ D n0 none S' M' n') args s (n' - nS) (z' - zS) (mA n0)) (F0 m 130 ls [.ref y0, .ref y1]) := by
  have hx := X.1.1
  have hb := X.1.2.1
  have hown := X.1.2.2.2.1
  have hts := X.1.2.2.2.2
  intro S M n z x0 y0 y1 H locs ls hn hz hp hl hF
  have hm0 := mn_X5_init_130 hF
  unfold fb_X5_init_130 at hF
  obtain ⟨M29, e30, hF⟩ := ob_s hF
  refine m_putWF X hp e30 kX5 (Nat.le_of_ble_eq_true rfl) q1485 rfl hnm rfl rfl rfl dX5_init_130 (fun H locs hp => ?_)
  refine lv_aload_n hx hb dX5_init_133 rfl (lv_at hl 0 rfl) ?_
  refine lv_bipush (v := 25) hx hb dX5_init_134 (by decide) ?_
  have hm := (mn_X5_init_138 (V := V)) hF
  refine m_newa X hp 100 (atype := .int) rfl (by decide) (fun h => h) q201 (by decide) (by decide) rfl (by show _ ≤ n' - nS; omega) (by show _ ≤ z' - zS; omega) dX5_init_136 (fun H hp => ?_)
  refine W.widen (k := n + 1 - nS) (n := z + (25 : Int32).toNatClampNeg - zS) (by omega) (by omega) ?_
  exact b_X5_init_138 hV hnm X _ _ _ _ _ _ _ _ _ _ (by omega) (by omega) hp (lv_sub hl [0] rfl) hF
def fb_X5_init_122 (V : Nat → Nat) (S : mSh) (M : mMm) (n z : Nat) (x0 : Nat) (y0 : Nat) (y1 : Nat) : Option (mSh × mMm × Nat × Nat) := ob (wF S M y1 6 25 (.ref y0)) fun M27 => (fb_X5_init_130 V (mS1 S n (100, (25 : Int32).toNatClampNeg)) (mM1 M27 n fun _ => .int 0) (n + 1) (z + (25 : Int32).toNatClampNeg) x0 n x0)
theorem mn_X5_init_122 {S' : mSh} {M' : mMm} {n' z' : Nat} : ∀ {S : mSh} {M : mMm} {n z : Nat} {x0 : Nat} {y0 : Nat} {y1 : Nat}, fb_X5_init_122 V S M n z x0 y0 y1 = some (S', M', n', z') → n ≤ n' ∧ z ≤ z' := by
  intro S M n z x0 y0 y1 hF
  unfold fb_X5_init_122 at hF
  obtain ⟨M27, e28, hF⟩ := ob_s hF
  have h9 := (mn_X5_init_130 (V := V)) hF
  exact ⟨by omega, by omega⟩
theorem b_X5_init_122 {S' : mSh} {M' : mMm} {n' z' : Nat} {nS zS : Nat} (hV : mV V n0 P) (hnm : meth.name = "<init>") (X : mCx D n0 P p m c cX5_init 1 s args yX5_init.cls meth none) : ∀ (S : mSh) (M : mMm) (n z : Nat) (x0 : Nat) (y0 : Nat) (y1 : Nat) (H : Heap) (locs : List Loc) (ls : Array Slot), nS ≤ n → zS ≤ z → mHp D n0 S M n s H locs → lv_has ls 1 [(0, .ref x0)] → fb_X5_init_122 V S M n z x0 y0 y1 = some (S', M', n', z') → W p l e (Rm_X5_init (n' - nS) (z' - zS)) s m args below meth c H locs (n - nS) (z - zS) (MQ below (mQ D n0 none S' M' n') args s (n' - nS) (z' - zS) (mA n0)) (F0 m 122 ls [.ref y0, .ref y1]) := by
  have hx := X.1.1
  have hb := X.1.2.1
  have hown := X.1.2.2.2.1
  have hts := X.1.2.2.2.2
  intro S M n z x0 y0 y1 H locs ls hn hz hp hl hF
  have hm0 := mn_X5_init_122 hF
  unfold fb_X5_init_122 at hF
  obtain ⟨M27, e28, hF⟩ := ob_s hF
  refine m_putWF X hp e28 kX5 (Nat.le_of_ble_eq_true rfl) q1484 rfl hnm rfl rfl rfl dX5_init_122 (fun H locs hp => ?_)
  refine lv_aload_n hx hb dX5_init_125 rfl (lv_at hl 0 rfl) ?_
  refine lv_bipush (v := 25) hx hb dX5_init_126 (by decide) ?_
  have hm := (mn_X5_init_130 (V := V)) hF
  refine m_newa X hp 100 (atype := .int) rfl (by decide) (fun h => h) q201 (by decide) (by decide) rfl (by show _ ≤ n' - nS; omega) (by show _ ≤ z' - zS; omega) dX5_init_128 (fun H hp => ?_)
  refine W.widen (k := n + 1 - nS) (n := z + (25 : Int32).toNatClampNeg - zS) (by omega) (by omega) ?_
  exact b_X5_init_130 hV hnm X _ _ _ _ _ _ _ _ _ _ (by omega) (by omega) hp (lv_sub hl [0] rfl) hF
def fb_X5_init_113 (V : Nat → Nat) (S : mSh) (M : mMm) (n z : Nat) (x0 : Nat) (y0 : Nat) (y1 : Nat) : Option (mSh × mMm × Nat × Nat) := ob (wF S M y1 6 24 (.ref y0)) fun M25 => (fb_X5_init_122 V (mS1 S n (100, (12096 : Int32).toNatClampNeg)) (mM1 M25 n fun _ => .int 0) (n + 1) (z + (12096 : Int32).toNatClampNeg) x0 n x0)
theorem mn_X5_init_113 {S' : mSh} {M' : mMm} {n' z' : Nat} : ∀ {S : mSh} {M : mMm} {n z : Nat} {x0 : Nat} {y0 : Nat} {y1 : Nat}, fb_X5_init_113 V S M n z x0 y0 y1 = some (S', M', n', z') → n ≤ n' ∧ z ≤ z' := by
  intro S M n z x0 y0 y1 hF
  unfold fb_X5_init_113 at hF
  obtain ⟨M25, e26, hF⟩ := ob_s hF
  have h9 := (mn_X5_init_122 (V := V)) hF
  exact ⟨by omega, by omega⟩
theorem b_X5_init_113 {S' : mSh} {M' : mMm} {n' z' : Nat} {nS zS : Nat} (hV : mV V n0 P) (hnm : meth.name = "<init>") (X : mCx D n0 P p m c cX5_init 1 s args yX5_init.cls meth none) : ∀ (S : mSh) (M : mMm) (n z : Nat) (x0 : Nat) (y0 : Nat) (y1 : Nat) (H : Heap) (locs : List Loc) (ls : Array Slot), nS ≤ n → zS ≤ z → mHp D n0 S M n s H locs → lv_has ls 1 [(0, .ref x0)] → fb_X5_init_113 V S M n z x0 y0 y1 = some (S', M', n', z') → W p l e (Rm_X5_init (n' - nS) (z' - zS)) s m args below meth c H locs (n - nS) (z - zS) (MQ below (mQ D n0 none S' M' n') args s (n' - nS) (z' - zS) (mA n0)) (F0 m 113 ls [.ref y0, .ref y1]) := by
  have hx := X.1.1
  have hb := X.1.2.1
  have hown := X.1.2.2.2.1
  have hts := X.1.2.2.2.2
  intro S M n z x0 y0 y1 H locs ls hn hz hp hl hF
  have hm0 := mn_X5_init_113 hF
  unfold fb_X5_init_113 at hF
  obtain ⟨M25, e26, hF⟩ := ob_s hF
  refine m_putWF X hp e26 kX5 (Nat.le_of_ble_eq_true rfl) q1483 rfl hnm rfl rfl rfl dX5_init_113 (fun H locs hp => ?_)
  refine lv_aload_n hx hb dX5_init_116 rfl (lv_at hl 0 rfl) ?_
  refine lv_sipush (v := 12096) hx hb dX5_init_117 (by decide) ?_
  have hm := (mn_X5_init_122 (V := V)) hF
  refine m_newa X hp 100 (atype := .int) rfl (by decide) (fun h => h) q201 (by decide) (by decide) rfl (by show _ ≤ n' - nS; omega) (by show _ ≤ z' - zS; omega) dX5_init_120 (fun H hp => ?_)
  refine W.widen (k := n + 1 - nS) (n := z + (12096 : Int32).toNatClampNeg - zS) (by omega) (by omega) ?_
  exact b_X5_init_122 hV hnm X _ _ _ _ _ _ _ _ _ _ (by omega) (by omega) hp (lv_sub hl [0] rfl) hF
def fb_X5_init_104 (V : Nat → Nat) (S : mSh) (M : mMm) (n z : Nat) (x0 : Nat) (y0 : Nat) (y1 : Nat) : Option (mSh × mMm × Nat × Nat) := ob (wF S M y1 6 23 (.ref y0)) fun M23 => (fb_X5_init_113 V (mS1 S n (100, (12096 : Int32).toNatClampNeg)) (mM1 M23 n fun _ => .int 0) (n + 1) (z + (12096 : Int32).toNatClampNeg) x0 n x0)
theorem mn_X5_init_104 {S' : mSh} {M' : mMm} {n' z' : Nat} : ∀ {S : mSh} {M : mMm} {n z : Nat} {x0 : Nat} {y0 : Nat} {y1 : Nat}, fb_X5_init_104 V S M n z x0 y0 y1 = some (S', M', n', z') → n ≤ n' ∧ z ≤ z' := by
  intro S M n z x0 y0 y1 hF
  unfold fb_X5_init_104 at hF
  obtain ⟨M23, e24, hF⟩ := ob_s hF
  have h9 := (mn_X5_init_113 (V := V)) hF
  exact ⟨by omega, by omega⟩
theorem b_X5_init_104 {S' : mSh} {M' : mMm} {n' z' : Nat} {nS zS : Nat} (hV : mV V n0 P) (hnm : meth.name = "<init>") (X : mCx D n0 P p m c cX5_init 1 s args yX5_init.cls meth none) : ∀ (S : mSh) (M : mMm) (n z : Nat) (x0 : Nat) (y0 : Nat) (y1 : Nat) (H : Heap) (locs : List Loc) (ls : Array Slot), nS ≤ n → zS ≤ z → mHp D n0 S M n s H locs → lv_has ls 1 [(0, .ref x0)] → fb_X5_init_104 V S M n z x0 y0 y1 = some (S', M', n', z') → W p l e (Rm_X5_init (n' - nS) (z' - zS)) s m args below meth c H locs (n - nS) (z - zS) (MQ below (mQ D n0 none S' M' n') args s (n' - nS) (z' - zS) (mA n0)) (F0 m 104 ls [.ref y0, .ref y1]) := by
  have hx := X.1.1
  have hb := X.1.2.1
  have hown := X.1.2.2.2.1
  have hts := X.1.2.2.2.2
  intro S M n z x0 y0 y1 H locs ls hn hz hp hl hF
  have hm0 := mn_X5_init_104 hF
  unfold fb_X5_init_104 at hF
  obtain ⟨M23, e24, hF⟩ := ob_s hF
  refine m_putWF X hp e24 kX5 (Nat.le_of_ble_eq_true rfl) q1482 rfl hnm rfl rfl rfl dX5_init_104 (fun H locs hp => ?_)
  refine lv_aload_n hx hb dX5_init_107 rfl (lv_at hl 0 rfl) ?_
  refine lv_sipush (v := 12096) hx hb dX5_init_108 (by decide) ?_
  have hm := (mn_X5_init_113 (V := V)) hF
  refine m_newa X hp 100 (atype := .int) rfl (by decide) (fun h => h) q201 (by decide) (by decide) rfl (by show _ ≤ n' - nS; omega) (by show _ ≤ z' - zS; omega) dX5_init_111 (fun H hp => ?_)
  refine W.widen (k := n + 1 - nS) (n := z + (12096 : Int32).toNatClampNeg - zS) (by omega) (by omega) ?_
  exact b_X5_init_113 hV hnm X _ _ _ _ _ _ _ _ _ _ (by omega) (by omega) hp (lv_sub hl [0] rfl) hF
def fb_X5_init_95 (V : Nat → Nat) (S : mSh) (M : mMm) (n z : Nat) (x0 : Nat) (y0 : Nat) (y1 : Nat) : Option (mSh × mMm × Nat × Nat) := ob (wF S M y1 6 22 (.ref y0)) fun M21 => (fb_X5_init_104 V (mS1 S n (100, (576 : Int32).toNatClampNeg)) (mM1 M21 n fun _ => .int 0) (n + 1) (z + (576 : Int32).toNatClampNeg) x0 n x0)
theorem mn_X5_init_95 {S' : mSh} {M' : mMm} {n' z' : Nat} : ∀ {S : mSh} {M : mMm} {n z : Nat} {x0 : Nat} {y0 : Nat} {y1 : Nat}, fb_X5_init_95 V S M n z x0 y0 y1 = some (S', M', n', z') → n ≤ n' ∧ z ≤ z' := by
  intro S M n z x0 y0 y1 hF
  unfold fb_X5_init_95 at hF
  obtain ⟨M21, e22, hF⟩ := ob_s hF
  have h9 := (mn_X5_init_104 (V := V)) hF
  exact ⟨by omega, by omega⟩
theorem b_X5_init_95 {S' : mSh} {M' : mMm} {n' z' : Nat} {nS zS : Nat} (hV : mV V n0 P) (hnm : meth.name = "<init>") (X : mCx D n0 P p m c cX5_init 1 s args yX5_init.cls meth none) : ∀ (S : mSh) (M : mMm) (n z : Nat) (x0 : Nat) (y0 : Nat) (y1 : Nat) (H : Heap) (locs : List Loc) (ls : Array Slot), nS ≤ n → zS ≤ z → mHp D n0 S M n s H locs → lv_has ls 1 [(0, .ref x0)] → fb_X5_init_95 V S M n z x0 y0 y1 = some (S', M', n', z') → W p l e (Rm_X5_init (n' - nS) (z' - zS)) s m args below meth c H locs (n - nS) (z - zS) (MQ below (mQ D n0 none S' M' n') args s (n' - nS) (z' - zS) (mA n0)) (F0 m 95 ls [.ref y0, .ref y1]) := by
  have hx := X.1.1
  have hb := X.1.2.1
  have hown := X.1.2.2.2.1
  have hts := X.1.2.2.2.2
  intro S M n z x0 y0 y1 H locs ls hn hz hp hl hF
  have hm0 := mn_X5_init_95 hF
  unfold fb_X5_init_95 at hF
  obtain ⟨M21, e22, hF⟩ := ob_s hF
  refine m_putWF X hp e22 kX5 (Nat.le_of_ble_eq_true rfl) q1481 rfl hnm rfl rfl rfl dX5_init_95 (fun H locs hp => ?_)
  refine lv_aload_n hx hb dX5_init_98 rfl (lv_at hl 0 rfl) ?_
  refine lv_sipush (v := 576) hx hb dX5_init_99 (by decide) ?_
  have hm := (mn_X5_init_104 (V := V)) hF
  refine m_newa X hp 100 (atype := .int) rfl (by decide) (fun h => h) q201 (by decide) (by decide) rfl (by show _ ≤ n' - nS; omega) (by show _ ≤ z' - zS; omega) dX5_init_102 (fun H hp => ?_)
  refine W.widen (k := n + 1 - nS) (n := z + (576 : Int32).toNatClampNeg - zS) (by omega) (by omega) ?_
  exact b_X5_init_104 hV hnm X _ _ _ _ _ _ _ _ _ _ (by omega) (by omega) hp (lv_sub hl [0] rfl) hF
def fb_X5_init_86 (V : Nat → Nat) (S : mSh) (M : mMm) (n z : Nat) (x0 : Nat) (y0 : Nat) (y1 : Nat) : Option (mSh × mMm × Nat × Nat) := ob (wF S M y1 6 21 (.ref y0)) fun M19 => (fb_X5_init_95 V (mS1 S n (100, (4032 : Int32).toNatClampNeg)) (mM1 M19 n fun _ => .int 0) (n + 1) (z + (4032 : Int32).toNatClampNeg) x0 n x0)
theorem mn_X5_init_86 {S' : mSh} {M' : mMm} {n' z' : Nat} : ∀ {S : mSh} {M : mMm} {n z : Nat} {x0 : Nat} {y0 : Nat} {y1 : Nat}, fb_X5_init_86 V S M n z x0 y0 y1 = some (S', M', n', z') → n ≤ n' ∧ z ≤ z' := by
  intro S M n z x0 y0 y1 hF
  unfold fb_X5_init_86 at hF
  obtain ⟨M19, e20, hF⟩ := ob_s hF
  have h9 := (mn_X5_init_95 (V := V)) hF
  exact ⟨by omega, by omega⟩
theorem b_X5_init_86 {S' : mSh} {M' : mMm} {n' z' : Nat} {nS zS : Nat} (hV : mV V n0 P) (hnm : meth.name = "<init>") (X : mCx D n0 P p m c cX5_init 1 s args yX5_init.cls meth none) : ∀ (S : mSh) (M : mMm) (n z : Nat) (x0 : Nat) (y0 : Nat) (y1 : Nat) (H : Heap) (locs : List Loc) (ls : Array Slot), nS ≤ n → zS ≤ z → mHp D n0 S M n s H locs → lv_has ls 1 [(0, .ref x0)] → fb_X5_init_86 V S M n z x0 y0 y1 = some (S', M', n', z') → W p l e (Rm_X5_init (n' - nS) (z' - zS)) s m args below meth c H locs (n - nS) (z - zS) (MQ below (mQ D n0 none S' M' n') args s (n' - nS) (z' - zS) (mA n0)) (F0 m 86 ls [.ref y0, .ref y1]) := by
  have hx := X.1.1
  have hb := X.1.2.1
  have hown := X.1.2.2.2.1
  have hts := X.1.2.2.2.2
  intro S M n z x0 y0 y1 H locs ls hn hz hp hl hF
  have hm0 := mn_X5_init_86 hF
  unfold fb_X5_init_86 at hF
  obtain ⟨M19, e20, hF⟩ := ob_s hF
  refine m_putWF X hp e20 kX5 (Nat.le_of_ble_eq_true rfl) q1480 rfl hnm rfl rfl rfl dX5_init_86 (fun H locs hp => ?_)
  refine lv_aload_n hx hb dX5_init_89 rfl (lv_at hl 0 rfl) ?_
  refine lv_sipush (v := 4032) hx hb dX5_init_90 (by decide) ?_
  have hm := (mn_X5_init_95 (V := V)) hF
  refine m_newa X hp 100 (atype := .int) rfl (by decide) (fun h => h) q201 (by decide) (by decide) rfl (by show _ ≤ n' - nS; omega) (by show _ ≤ z' - zS; omega) dX5_init_93 (fun H hp => ?_)
  refine W.widen (k := n + 1 - nS) (n := z + (4032 : Int32).toNatClampNeg - zS) (by omega) (by omega) ?_
  exact b_X5_init_95 hV hnm X _ _ _ _ _ _ _ _ _ _ (by omega) (by omega) hp (lv_sub hl [0] rfl) hF
def fb_X5_init_77 (V : Nat → Nat) (S : mSh) (M : mMm) (n z : Nat) (x0 : Nat) (y0 : Nat) (y1 : Nat) : Option (mSh × mMm × Nat × Nat) := ob (wF S M y1 6 20 (.ref y0)) fun M17 => (fb_X5_init_86 V (mS1 S n (100, (420 : Int32).toNatClampNeg)) (mM1 M17 n fun _ => .int 0) (n + 1) (z + (420 : Int32).toNatClampNeg) x0 n x0)
theorem mn_X5_init_77 {S' : mSh} {M' : mMm} {n' z' : Nat} : ∀ {S : mSh} {M : mMm} {n z : Nat} {x0 : Nat} {y0 : Nat} {y1 : Nat}, fb_X5_init_77 V S M n z x0 y0 y1 = some (S', M', n', z') → n ≤ n' ∧ z ≤ z' := by
  intro S M n z x0 y0 y1 hF
  unfold fb_X5_init_77 at hF
  obtain ⟨M17, e18, hF⟩ := ob_s hF
  have h9 := (mn_X5_init_86 (V := V)) hF
  exact ⟨by omega, by omega⟩
theorem b_X5_init_77 {S' : mSh} {M' : mMm} {n' z' : Nat} {nS zS : Nat} (hV : mV V n0 P) (hnm : meth.name = "<init>") (X : mCx D n0 P p m c cX5_init 1 s args yX5_init.cls meth none) : ∀ (S : mSh) (M : mMm) (n z : Nat) (x0 : Nat) (y0 : Nat) (y1 : Nat) (H : Heap) (locs : List Loc) (ls : Array Slot), nS ≤ n → zS ≤ z → mHp D n0 S M n s H locs → lv_has ls 1 [(0, .ref x0)] → fb_X5_init_77 V S M n z x0 y0 y1 = some (S', M', n', z') → W p l e (Rm_X5_init (n' - nS) (z' - zS)) s m args below meth c H locs (n - nS) (z - zS) (MQ below (mQ D n0 none S' M' n') args s (n' - nS) (z' - zS) (mA n0)) (F0 m 77 ls [.ref y0, .ref y1]) := by
  have hx := X.1.1
  have hb := X.1.2.1
  have hown := X.1.2.2.2.1
  have hts := X.1.2.2.2.2
  intro S M n z x0 y0 y1 H locs ls hn hz hp hl hF
  have hm0 := mn_X5_init_77 hF
  unfold fb_X5_init_77 at hF
  obtain ⟨M17, e18, hF⟩ := ob_s hF
  refine m_putWF X hp e18 kX5 (Nat.le_of_ble_eq_true rfl) q1479 rfl hnm rfl rfl rfl dX5_init_77 (fun H locs hp => ?_)
  refine lv_aload_n hx hb dX5_init_80 rfl (lv_at hl 0 rfl) ?_
  refine lv_sipush (v := 420) hx hb dX5_init_81 (by decide) ?_
  have hm := (mn_X5_init_86 (V := V)) hF
  refine m_newa X hp 100 (atype := .int) rfl (by decide) (fun h => h) q201 (by decide) (by decide) rfl (by show _ ≤ n' - nS; omega) (by show _ ≤ z' - zS; omega) dX5_init_84 (fun H hp => ?_)
  refine W.widen (k := n + 1 - nS) (n := z + (420 : Int32).toNatClampNeg - zS) (by omega) (by omega) ?_
  exact b_X5_init_86 hV hnm X _ _ _ _ _ _ _ _ _ _ (by omega) (by omega) hp (lv_sub hl [0] rfl) hF
def fb_X5_init_69 (V : Nat → Nat) (S : mSh) (M : mMm) (n z : Nat) (x0 : Nat) (y0 : Nat) (y1 : Nat) : Option (mSh × mMm × Nat × Nat) := ob (wF S M y1 6 18 (.ref y0)) fun M15 => (fb_X5_init_77 V (mS1 S n (100, (10 : Int32).toNatClampNeg)) (mM1 M15 n fun _ => .int 0) (n + 1) (z + (10 : Int32).toNatClampNeg) x0 n x0)
theorem mn_X5_init_69 {S' : mSh} {M' : mMm} {n' z' : Nat} : ∀ {S : mSh} {M : mMm} {n z : Nat} {x0 : Nat} {y0 : Nat} {y1 : Nat}, fb_X5_init_69 V S M n z x0 y0 y1 = some (S', M', n', z') → n ≤ n' ∧ z ≤ z' := by
  intro S M n z x0 y0 y1 hF
  unfold fb_X5_init_69 at hF
  obtain ⟨M15, e16, hF⟩ := ob_s hF
  have h9 := (mn_X5_init_77 (V := V)) hF
  exact ⟨by omega, by omega⟩
theorem b_X5_init_69 {S' : mSh} {M' : mMm} {n' z' : Nat} {nS zS : Nat} (hV : mV V n0 P) (hnm : meth.name = "<init>") (X : mCx D n0 P p m c cX5_init 1 s args yX5_init.cls meth none) : ∀ (S : mSh) (M : mMm) (n z : Nat) (x0 : Nat) (y0 : Nat) (y1 : Nat) (H : Heap) (locs : List Loc) (ls : Array Slot), nS ≤ n → zS ≤ z → mHp D n0 S M n s H locs → lv_has ls 1 [(0, .ref x0)] → fb_X5_init_69 V S M n z x0 y0 y1 = some (S', M', n', z') → W p l e (Rm_X5_init (n' - nS) (z' - zS)) s m args below meth c H locs (n - nS) (z - zS) (MQ below (mQ D n0 none S' M' n') args s (n' - nS) (z' - zS) (mA n0)) (F0 m 69 ls [.ref y0, .ref y1]) := by
  have hx := X.1.1
  have hb := X.1.2.1
  have hown := X.1.2.2.2.1
  have hts := X.1.2.2.2.2
  intro S M n z x0 y0 y1 H locs ls hn hz hp hl hF
  have hm0 := mn_X5_init_69 hF
  unfold fb_X5_init_69 at hF
  obtain ⟨M15, e16, hF⟩ := ob_s hF
  refine m_putWF X hp e16 kX5 (Nat.le_of_ble_eq_true rfl) q1477 rfl hnm rfl rfl rfl dX5_init_69 (fun H locs hp => ?_)
  refine lv_aload_n hx hb dX5_init_72 rfl (lv_at hl 0 rfl) ?_
  refine lv_bipush (v := 10) hx hb dX5_init_73 (by decide) ?_
  have hm := (mn_X5_init_77 (V := V)) hF
  refine m_newa X hp 100 (atype := .int) rfl (by decide) (fun h => h) q201 (by decide) (by decide) rfl (by show _ ≤ n' - nS; omega) (by show _ ≤ z' - zS; omega) dX5_init_75 (fun H hp => ?_)
  refine W.widen (k := n + 1 - nS) (n := z + (10 : Int32).toNatClampNeg - zS) (by omega) (by omega) ?_
  exact b_X5_init_77 hV hnm X _ _ _ _ _ _ _ _ _ _ (by omega) (by omega) hp (lv_sub hl [0] rfl) hF
def fb_X5_init_60 (V : Nat → Nat) (S : mSh) (M : mMm) (n z : Nat) (x0 : Nat) (y0 : Nat) (y1 : Nat) : Option (mSh × mMm × Nat × Nat) := ob (wF S M y1 6 16 (.ref y0)) fun M13 => (fb_X5_init_69 V (mS1 S n (100, (420 : Int32).toNatClampNeg)) (mM1 M13 n fun _ => .int 0) (n + 1) (z + (420 : Int32).toNatClampNeg) x0 n x0)
theorem mn_X5_init_60 {S' : mSh} {M' : mMm} {n' z' : Nat} : ∀ {S : mSh} {M : mMm} {n z : Nat} {x0 : Nat} {y0 : Nat} {y1 : Nat}, fb_X5_init_60 V S M n z x0 y0 y1 = some (S', M', n', z') → n ≤ n' ∧ z ≤ z' := by
  intro S M n z x0 y0 y1 hF
  unfold fb_X5_init_60 at hF
  obtain ⟨M13, e14, hF⟩ := ob_s hF
  have h9 := (mn_X5_init_69 (V := V)) hF
  exact ⟨by omega, by omega⟩
theorem b_X5_init_60 {S' : mSh} {M' : mMm} {n' z' : Nat} {nS zS : Nat} (hV : mV V n0 P) (hnm : meth.name = "<init>") (X : mCx D n0 P p m c cX5_init 1 s args yX5_init.cls meth none) : ∀ (S : mSh) (M : mMm) (n z : Nat) (x0 : Nat) (y0 : Nat) (y1 : Nat) (H : Heap) (locs : List Loc) (ls : Array Slot), nS ≤ n → zS ≤ z → mHp D n0 S M n s H locs → lv_has ls 1 [(0, .ref x0)] → fb_X5_init_60 V S M n z x0 y0 y1 = some (S', M', n', z') → W p l e (Rm_X5_init (n' - nS) (z' - zS)) s m args below meth c H locs (n - nS) (z - zS) (MQ below (mQ D n0 none S' M' n') args s (n' - nS) (z' - zS) (mA n0)) (F0 m 60 ls [.ref y0, .ref y1]) := by
  have hx := X.1.1
  have hb := X.1.2.1
  have hown := X.1.2.2.2.1
  have hts := X.1.2.2.2.2
  intro S M n z x0 y0 y1 H locs ls hn hz hp hl hF
  have hm0 := mn_X5_init_60 hF
  unfold fb_X5_init_60 at hF
  obtain ⟨M13, e14, hF⟩ := ob_s hF
  refine m_putWF X hp e14 kX5 (Nat.le_of_ble_eq_true rfl) q1475 rfl hnm rfl rfl rfl dX5_init_60 (fun H locs hp => ?_)
  refine lv_aload_n hx hb dX5_init_63 rfl (lv_at hl 0 rfl) ?_
  refine lv_sipush (v := 420) hx hb dX5_init_64 (by decide) ?_
  have hm := (mn_X5_init_69 (V := V)) hF
  refine m_newa X hp 100 (atype := .int) rfl (by decide) (fun h => h) q201 (by decide) (by decide) rfl (by show _ ≤ n' - nS; omega) (by show _ ≤ z' - zS; omega) dX5_init_67 (fun H hp => ?_)
  refine W.widen (k := n + 1 - nS) (n := z + (420 : Int32).toNatClampNeg - zS) (by omega) (by omega) ?_
  exact b_X5_init_69 hV hnm X _ _ _ _ _ _ _ _ _ _ (by omega) (by omega) hp (lv_sub hl [0] rfl) hF
def fb_X5_init_51 (V : Nat → Nat) (S : mSh) (M : mMm) (n z : Nat) (x0 : Nat) (y0 : Nat) (y1 : Nat) : Option (mSh × mMm × Nat × Nat) := ob (wF S M y1 6 15 (.ref y0)) fun M11 => (fb_X5_init_60 V (mS1 S n (100, (2425 : Int32).toNatClampNeg)) (mM1 M11 n fun _ => .int 0) (n + 1) (z + (2425 : Int32).toNatClampNeg) x0 n x0)
theorem mn_X5_init_51 {S' : mSh} {M' : mMm} {n' z' : Nat} : ∀ {S : mSh} {M : mMm} {n z : Nat} {x0 : Nat} {y0 : Nat} {y1 : Nat}, fb_X5_init_51 V S M n z x0 y0 y1 = some (S', M', n', z') → n ≤ n' ∧ z ≤ z' := by
  intro S M n z x0 y0 y1 hF
  unfold fb_X5_init_51 at hF
  obtain ⟨M11, e12, hF⟩ := ob_s hF
  have h9 := (mn_X5_init_60 (V := V)) hF
  exact ⟨by omega, by omega⟩
theorem b_X5_init_51 {S' : mSh} {M' : mMm} {n' z' : Nat} {nS zS : Nat} (hV : mV V n0 P) (hnm : meth.name = "<init>") (X : mCx D n0 P p m c cX5_init 1 s args yX5_init.cls meth none) : ∀ (S : mSh) (M : mMm) (n z : Nat) (x0 : Nat) (y0 : Nat) (y1 : Nat) (H : Heap) (locs : List Loc) (ls : Array Slot), nS ≤ n → zS ≤ z → mHp D n0 S M n s H locs → lv_has ls 1 [(0, .ref x0)] → fb_X5_init_51 V S M n z x0 y0 y1 = some (S', M', n', z') → W p l e (Rm_X5_init (n' - nS) (z' - zS)) s m args below meth c H locs (n - nS) (z - zS) (MQ below (mQ D n0 none S' M' n') args s (n' - nS) (z' - zS) (mA n0)) (F0 m 51 ls [.ref y0, .ref y1]) := by
  have hx := X.1.1
  have hb := X.1.2.1
  have hown := X.1.2.2.2.1
  have hts := X.1.2.2.2.2
  intro S M n z x0 y0 y1 H locs ls hn hz hp hl hF
  have hm0 := mn_X5_init_51 hF
  unfold fb_X5_init_51 at hF
  obtain ⟨M11, e12, hF⟩ := ob_s hF
  refine m_putWF X hp e12 kX5 (Nat.le_of_ble_eq_true rfl) q1474 rfl hnm rfl rfl rfl dX5_init_51 (fun H locs hp => ?_)
  refine lv_aload_n hx hb dX5_init_54 rfl (lv_at hl 0 rfl) ?_
  refine lv_sipush (v := 2425) hx hb dX5_init_55 (by decide) ?_
  have hm := (mn_X5_init_60 (V := V)) hF
  refine m_newa X hp 100 (atype := .int) rfl (by decide) (fun h => h) q201 (by decide) (by decide) rfl (by show _ ≤ n' - nS; omega) (by show _ ≤ z' - zS; omega) dX5_init_58 (fun H hp => ?_)
  refine W.widen (k := n + 1 - nS) (n := z + (2425 : Int32).toNatClampNeg - zS) (by omega) (by omega) ?_
  exact b_X5_init_60 hV hnm X _ _ _ _ _ _ _ _ _ _ (by omega) (by omega) hp (lv_sub hl [0] rfl) hF
def fb_X5_init_37 (V : Nat → Nat) (S : mSh) (M : mMm) (n z : Nat) (x0 : Nat) (y0 : Nat) (y1 : Nat) : Option (mSh × mMm × Nat × Nat) := ob (wF S M y1 6 3 (.ref y0)) fun M7 => ob (wF S M7 x0 6 14 (.int (-1 : Int32))) fun M9 => (fb_X5_init_51 V (mS1 S n (100, (400 : Int32).toNatClampNeg)) (mM1 M9 n fun _ => .int 0) (n + 1) (z + (400 : Int32).toNatClampNeg) x0 n x0)
theorem mn_X5_init_37 {S' : mSh} {M' : mMm} {n' z' : Nat} : ∀ {S : mSh} {M : mMm} {n z : Nat} {x0 : Nat} {y0 : Nat} {y1 : Nat}, fb_X5_init_37 V S M n z x0 y0 y1 = some (S', M', n', z') → n ≤ n' ∧ z ≤ z' := by
  intro S M n z x0 y0 y1 hF
  unfold fb_X5_init_37 at hF
  obtain ⟨M7, e8, hF⟩ := ob_s hF
  obtain ⟨M9, e10, hF⟩ := ob_s hF
  have h9 := (mn_X5_init_51 (V := V)) hF
  exact ⟨by omega, by omega⟩
theorem b_X5_init_37 {S' : mSh} {M' : mMm} {n' z' : Nat} {nS zS : Nat} (hV : mV V n0 P) (hnm : meth.name = "<init>") (X : mCx D n0 P p m c cX5_init 1 s args yX5_init.cls meth none) : ∀ (S : mSh) (M : mMm) (n z : Nat) (x0 : Nat) (y0 : Nat) (y1 : Nat) (H : Heap) (locs : List Loc) (ls : Array Slot), nS ≤ n → zS ≤ z → mHp D n0 S M n s H locs → lv_has ls 1 [(0, .ref x0)] → fb_X5_init_37 V S M n z x0 y0 y1 = some (S', M', n', z') → W p l e (Rm_X5_init (n' - nS) (z' - zS)) s m args below meth c H locs (n - nS) (z - zS) (MQ below (mQ D n0 none S' M' n') args s (n' - nS) (z' - zS) (mA n0)) (F0 m 37 ls [.ref y0, .ref y1]) := by
  have hx := X.1.1
  have hb := X.1.2.1
  have hown := X.1.2.2.2.1
  have hts := X.1.2.2.2.2
  intro S M n z x0 y0 y1 H locs ls hn hz hp hl hF
  have hm0 := mn_X5_init_37 hF
  unfold fb_X5_init_37 at hF
  obtain ⟨M7, e8, hF⟩ := ob_s hF
  refine m_putWF X hp e8 kX5 (Nat.le_of_ble_eq_true rfl) q1462 rfl hnm rfl rfl rfl dX5_init_37 (fun H locs hp => ?_)
  refine lv_aload_n hx hb dX5_init_40 rfl (lv_at hl 0 rfl) ?_
  refine lv_iconst (v := -1) hx hb dX5_init_41 (by decide) ?_
  obtain ⟨M9, e10, hF⟩ := ob_s hF
  refine m_putW X hp e10 kX5 (Nat.le_of_ble_eq_true rfl) q1473 rfl rfl rfl dX5_init_42 (fun H locs hp => ?_)
  refine lv_aload_n hx hb dX5_init_45 rfl (lv_at hl 0 rfl) ?_
  refine lv_sipush (v := 400) hx hb dX5_init_46 (by decide) ?_
  have hm := (mn_X5_init_51 (V := V)) hF
  refine m_newa X hp 100 (atype := .int) rfl (by decide) (fun h => h) q201 (by decide) (by decide) rfl (by show _ ≤ n' - nS; omega) (by show _ ≤ z' - zS; omega) dX5_init_49 (fun H hp => ?_)
  refine W.widen (k := n + 1 - nS) (n := z + (400 : Int32).toNatClampNeg - zS) (by omega) (by omega) ?_
  exact b_X5_init_51 hV hnm X _ _ _ _ _ _ _ _ _ _ (by omega) (by omega) hp (lv_sub hl [0] rfl) hF
def fb_X5_init_28 (V : Nat → Nat) (S : mSh) (M : mMm) (n z : Nat) (x0 : Nat) (y0 : Nat) (y1 : Nat) : Option (mSh × mMm × Nat × Nat) := ob (wF S M y1 6 2 (.ref y0)) fun M5 => (fb_X5_init_37 V (mS1 S n (100, (5640 : Int32).toNatClampNeg)) (mM1 M5 n fun _ => .int 0) (n + 1) (z + (5640 : Int32).toNatClampNeg) x0 n x0)
theorem mn_X5_init_28 {S' : mSh} {M' : mMm} {n' z' : Nat} : ∀ {S : mSh} {M : mMm} {n z : Nat} {x0 : Nat} {y0 : Nat} {y1 : Nat}, fb_X5_init_28 V S M n z x0 y0 y1 = some (S', M', n', z') → n ≤ n' ∧ z ≤ z' := by
  intro S M n z x0 y0 y1 hF
  unfold fb_X5_init_28 at hF
  obtain ⟨M5, e6, hF⟩ := ob_s hF
  have h9 := (mn_X5_init_37 (V := V)) hF
  exact ⟨by omega, by omega⟩
theorem b_X5_init_28 {S' : mSh} {M' : mMm} {n' z' : Nat} {nS zS : Nat} (hV : mV V n0 P) (hnm : meth.name = "<init>") (X : mCx D n0 P p m c cX5_init 1 s args yX5_init.cls meth none) : ∀ (S : mSh) (M : mMm) (n z : Nat) (x0 : Nat) (y0 : Nat) (y1 : Nat) (H : Heap) (locs : List Loc) (ls : Array Slot), nS ≤ n → zS ≤ z → mHp D n0 S M n s H locs → lv_has ls 1 [(0, .ref x0)] → fb_X5_init_28 V S M n z x0 y0 y1 = some (S', M', n', z') → W p l e (Rm_X5_init (n' - nS) (z' - zS)) s m args below meth c H locs (n - nS) (z - zS) (MQ below (mQ D n0 none S' M' n') args s (n' - nS) (z' - zS) (mA n0)) (F0 m 28 ls [.ref y0, .ref y1]) := by
  have hx := X.1.1
  have hb := X.1.2.1
  have hown := X.1.2.2.2.1
  have hts := X.1.2.2.2.2
  intro S M n z x0 y0 y1 H locs ls hn hz hp hl hF
  have hm0 := mn_X5_init_28 hF
  unfold fb_X5_init_28 at hF
  obtain ⟨M5, e6, hF⟩ := ob_s hF
  refine m_putWF X hp e6 kX5 (Nat.le_of_ble_eq_true rfl) q1461 rfl hnm rfl rfl rfl dX5_init_28 (fun H locs hp => ?_)
  refine lv_aload_n hx hb dX5_init_31 rfl (lv_at hl 0 rfl) ?_
  refine lv_sipush (v := 5640) hx hb dX5_init_32 (by decide) ?_
  have hm := (mn_X5_init_37 (V := V)) hF
  refine m_newa X hp 100 (atype := .int) rfl (by decide) (fun h => h) q201 (by decide) (by decide) rfl (by show _ ≤ n' - nS; omega) (by show _ ≤ z' - zS; omega) dX5_init_35 (fun H hp => ?_)
  refine W.widen (k := n + 1 - nS) (n := z + (5640 : Int32).toNatClampNeg - zS) (by omega) (by omega) ?_
  exact b_X5_init_37 hV hnm X _ _ _ _ _ _ _ _ _ _ (by omega) (by omega) hp (lv_sub hl [0] rfl) hF
def fb_X5_init_19 (V : Nat → Nat) (S : mSh) (M : mMm) (n z : Nat) (x0 : Nat) (y0 : Nat) (y1 : Nat) : Option (mSh × mMm × Nat × Nat) := ob (wF S M y1 6 1 (.ref y0)) fun M3 => (fb_X5_init_28 V (mS1 S n (100, (2425 : Int32).toNatClampNeg)) (mM1 M3 n fun _ => .int 0) (n + 1) (z + (2425 : Int32).toNatClampNeg) x0 n x0)
theorem mn_X5_init_19 {S' : mSh} {M' : mMm} {n' z' : Nat} : ∀ {S : mSh} {M : mMm} {n z : Nat} {x0 : Nat} {y0 : Nat} {y1 : Nat}, fb_X5_init_19 V S M n z x0 y0 y1 = some (S', M', n', z') → n ≤ n' ∧ z ≤ z' := by
  intro S M n z x0 y0 y1 hF
  unfold fb_X5_init_19 at hF
  obtain ⟨M3, e4, hF⟩ := ob_s hF
  have h9 := (mn_X5_init_28 (V := V)) hF
  exact ⟨by omega, by omega⟩
theorem b_X5_init_19 {S' : mSh} {M' : mMm} {n' z' : Nat} {nS zS : Nat} (hV : mV V n0 P) (hnm : meth.name = "<init>") (X : mCx D n0 P p m c cX5_init 1 s args yX5_init.cls meth none) : ∀ (S : mSh) (M : mMm) (n z : Nat) (x0 : Nat) (y0 : Nat) (y1 : Nat) (H : Heap) (locs : List Loc) (ls : Array Slot), nS ≤ n → zS ≤ z → mHp D n0 S M n s H locs → lv_has ls 1 [(0, .ref x0)] → fb_X5_init_19 V S M n z x0 y0 y1 = some (S', M', n', z') → W p l e (Rm_X5_init (n' - nS) (z' - zS)) s m args below meth c H locs (n - nS) (z - zS) (MQ below (mQ D n0 none S' M' n') args s (n' - nS) (z' - zS) (mA n0)) (F0 m 19 ls [.ref y0, .ref y1]) := by
  have hx := X.1.1
  have hb := X.1.2.1
  have hown := X.1.2.2.2.1
  have hts := X.1.2.2.2.2
  intro S M n z x0 y0 y1 H locs ls hn hz hp hl hF
  have hm0 := mn_X5_init_19 hF
  unfold fb_X5_init_19 at hF
  obtain ⟨M3, e4, hF⟩ := ob_s hF
  refine m_putWF X hp e4 kX5 (Nat.le_of_ble_eq_true rfl) q1460 rfl hnm rfl rfl rfl dX5_init_19 (fun H locs hp => ?_)
  refine lv_aload_n hx hb dX5_init_22 rfl (lv_at hl 0 rfl) ?_
  refine lv_sipush (v := 2425) hx hb dX5_init_23 (by decide) ?_
  have hm := (mn_X5_init_28 (V := V)) hF
  refine m_newa X hp 100 (atype := .int) rfl (by decide) (fun h => h) q201 (by decide) (by decide) rfl (by show _ ≤ n' - nS; omega) (by show _ ≤ z' - zS; omega) dX5_init_26 (fun H hp => ?_)
  refine W.widen (k := n + 1 - nS) (n := z + (2425 : Int32).toNatClampNeg - zS) (by omega) (by omega) ?_
  exact b_X5_init_28 hV hnm X _ _ _ _ _ _ _ _ _ _ (by omega) (by omega) hp (lv_sub hl [0] rfl) hF
def fb_X5_init_10 (V : Nat → Nat) (S : mSh) (M : mMm) (n z : Nat) (x0 : Nat) (y0 : Nat) (y1 : Nat) : Option (mSh × mMm × Nat × Nat) := ob (wF S M y1 6 0 (.ref y0)) fun M1 => (fb_X5_init_19 V (mS1 S n (100, (2425 : Int32).toNatClampNeg)) (mM1 M1 n fun _ => .int 0) (n + 1) (z + (2425 : Int32).toNatClampNeg) x0 n x0)
theorem mn_X5_init_10 {S' : mSh} {M' : mMm} {n' z' : Nat} : ∀ {S : mSh} {M : mMm} {n z : Nat} {x0 : Nat} {y0 : Nat} {y1 : Nat}, fb_X5_init_10 V S M n z x0 y0 y1 = some (S', M', n', z') → n ≤ n' ∧ z ≤ z' := by
  intro S M n z x0 y0 y1 hF
  unfold fb_X5_init_10 at hF
  obtain ⟨M1, e2, hF⟩ := ob_s hF
  have h9 := (mn_X5_init_19 (V := V)) hF
  exact ⟨by omega, by omega⟩
theorem b_X5_init_10 {S' : mSh} {M' : mMm} {n' z' : Nat} {nS zS : Nat} (hV : mV V n0 P) (hnm : meth.name = "<init>") (X : mCx D n0 P p m c cX5_init 1 s args yX5_init.cls meth none) : ∀ (S : mSh) (M : mMm) (n z : Nat) (x0 : Nat) (y0 : Nat) (y1 : Nat) (H : Heap) (locs : List Loc) (ls : Array Slot), nS ≤ n → zS ≤ z → mHp D n0 S M n s H locs → lv_has ls 1 [(0, .ref x0)] → fb_X5_init_10 V S M n z x0 y0 y1 = some (S', M', n', z') → W p l e (Rm_X5_init (n' - nS) (z' - zS)) s m args below meth c H locs (n - nS) (z - zS) (MQ below (mQ D n0 none S' M' n') args s (n' - nS) (z' - zS) (mA n0)) (F0 m 10 ls [.ref y0, .ref y1]) := by
  have hx := X.1.1
  have hb := X.1.2.1
  have hown := X.1.2.2.2.1
  have hts := X.1.2.2.2.2
  intro S M n z x0 y0 y1 H locs ls hn hz hp hl hF
  have hm0 := mn_X5_init_10 hF
  unfold fb_X5_init_10 at hF
  obtain ⟨M1, e2, hF⟩ := ob_s hF
  refine m_putWF X hp e2 kX5 (Nat.le_of_ble_eq_true rfl) q1459 rfl hnm rfl rfl rfl dX5_init_10 (fun H locs hp => ?_)
  refine lv_aload_n hx hb dX5_init_13 rfl (lv_at hl 0 rfl) ?_
  refine lv_sipush (v := 2425) hx hb dX5_init_14 (by decide) ?_
  have hm := (mn_X5_init_19 (V := V)) hF
  refine m_newa X hp 100 (atype := .int) rfl (by decide) (fun h => h) q201 (by decide) (by decide) rfl (by show _ ≤ n' - nS; omega) (by show _ ≤ z' - zS; omega) dX5_init_17 (fun H hp => ?_)
  refine W.widen (k := n + 1 - nS) (n := z + (2425 : Int32).toNatClampNeg - zS) (by omega) (by omega) ?_
  exact b_X5_init_19 hV hnm X _ _ _ _ _ _ _ _ _ _ (by omega) (by omega) hp (lv_sub hl [0] rfl) hF
def fb_X5_init_0 (V : Nat → Nat) (S : mSh) (M : mMm) (n z : Nat) (x0 : Nat) : Option (mSh × mMm × Nat × Nat) := (fb_X5_init_10 V (mS1 S n (100, (2425 : Int32).toNatClampNeg)) (mM1 M n fun _ => .int 0) (n + 1) (z + (2425 : Int32).toNatClampNeg) x0 n x0)
theorem mn_X5_init_0 {S' : mSh} {M' : mMm} {n' z' : Nat} : ∀ {S : mSh} {M : mMm} {n z : Nat} {x0 : Nat}, fb_X5_init_0 V S M n z x0 = some (S', M', n', z') → n ≤ n' ∧ z ≤ z' := by
  intro S M n z x0 hF
  unfold fb_X5_init_0 at hF
  have h9 := (mn_X5_init_10 (V := V)) hF
  exact ⟨by omega, by omega⟩
theorem b_X5_init_0 {S' : mSh} {M' : mMm} {n' z' : Nat} {nS zS : Nat} (hV : mV V n0 P) (hnm : meth.name = "<init>") (X : mCx D n0 P p m c cX5_init 1 s args yX5_init.cls meth none) : ∀ (S : mSh) (M : mMm) (n z : Nat) (x0 : Nat) (H : Heap) (locs : List Loc) (ls : Array Slot), nS ≤ n → zS ≤ z → mHp D n0 S M n s H locs → lv_has ls 1 [(0, .ref x0)] → fb_X5_init_0 V S M n z x0 = some (S', M', n', z') → W p l e (Rm_X5_init (n' - nS) (z' - zS)) s m args below meth c H locs (n - nS) (z - zS) (MQ below (mQ D n0 none S' M' n') args s (n' - nS) (z' - zS) (mA n0)) (F0 m 0 ls []) := by
  have hx := X.1.1
  have hb := X.1.2.1
  have hown := X.1.2.2.2.1
  have hts := X.1.2.2.2.2
  intro S M n z x0 H locs ls hn hz hp hl hF
  have hm0 := mn_X5_init_0 hF
  unfold fb_X5_init_0 at hF
  refine lv_aload_n hx hb dX5_init_0 rfl (lv_at hl 0 rfl) ?_
  refine m_objInit X q1458 q168 q169 hl.1 (Nat.le_of_ble_eq_true rfl) (Nat.le_of_ble_eq_true rfl) dX5_init_1 ?_
  refine lv_aload_n hx hb dX5_init_4 rfl (lv_at hl 0 rfl) ?_
  refine lv_sipush (v := 2425) hx hb dX5_init_5 (by decide) ?_
  have hm := (mn_X5_init_10 (V := V)) hF
  refine m_newa X hp 100 (atype := .int) rfl (by decide) (fun h => h) q201 (by decide) (by decide) rfl (by show _ ≤ n' - nS; omega) (by show _ ≤ z' - zS; omega) dX5_init_8 (fun H hp => ?_)
  refine W.widen (k := n + 1 - nS) (n := z + (2425 : Int32).toNatClampNeg - zS) (by omega) (by omega) ?_
  exact b_X5_init_10 hV hnm X _ _ _ _ _ _ _ _ _ _ (by omega) (by omega) hp (lv_sub hl [0] rfl) hF
def f_X5_init (V : Nat → Nat) (S : mSh) (M : mMm) (n z : Nat) (x0 : Nat) : Option (mSh × mMm × Nat × Nat) := (fb_X5_init_0 V S M n z x0)
theorem mn_X5_init {x0 : Nat} {S' : mSh} {M' : mMm} {n' z' : Nat} {S : mSh} {M : mMm} {n z : Nat} (hF : f_X5_init V S M n z x0 = some (S', M', n', z')) : n ≤ n' ∧ z ≤ z' := by
  unfold f_X5_init at hF
  exact mn_X5_init_0 hF
theorem w_X5_init {x0 : Nat} {S' : mSh} {M' : mMm} {n' z' : Nat} {S : mSh} {M : mMm} {n z : Nat} (hV : mV V n0 P) (hF : f_X5_init V S M n z x0 = some (S', M', n', z')) : mCt l D n0 P yX5_init cX5_init 1 none 1 60 (n' - n) (z' - z) [.ref x0] S M n none S' M' n' := by
  refine m_ofW (by decide) (Nat.le_of_ble_eq_true rfl) (fun p e s m below meth c X hnm hp ls hl => ?_)
  unfold f_X5_init at hF
  refine W.widen (k := n - n) (n := z - z) (by omega) (by omega) ?_
  exact b_X5_init_0 hV hnm X _ _ _ _ _ _ _ _ (Nat.le_refl _) (Nat.le_refl _) hp hl hF
end
