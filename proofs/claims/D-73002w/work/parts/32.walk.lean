set_option maxRecDepth 100000
section
variable {l : Launch} {D : va_G} {n0 : Nat} {P : mP} {S : mSh} {M : mMm} {n : Nat} {p : Program} {e : Env} {s : State} {m : MethodId} {args : Array Value} {below : List Frame} {meth : Method} {c : Code}
abbrev Rm_X10_of (frr lor : Nat) : Room := { frames := frr + 1, cells := 0, slots := 0, locals := lor + 23 }
def fo_X10_of (S : mSh) (M : mMm) (rec : Nat → Nat → Option Int32) (x0 : Nat) (x1 : Nat) : Option Int32 := ob (rI S M x0 10 0) fun v1 => gd ((S x1).1 = 2) (ob (f_X1_fact S M x1 v1) fun v3 => some v3)
theorem wo_X10_of {x0 : Nat} {x1 : Nat} {r : Int32} {frr lor : Nat} {rec : Nat → Nat → Option Int32} (hrec : ∀ {a b : Nat} {r : Int32}, rec a b = some r → mTt l D n0 P S M n frr lor a b r) (hfl : 5 ≤ frr ∧ 108 ≤ lor) (hF : fo_X10_of S M rec x0 x1 = some r) : mCt l D n0 P yX10_of cX10_of 2 (some .int) (frr + 1) (lor + 23) 0 0 [.ref x0, .ref x1] S M n (some (.int r)) S M n := by
  refine m_ofW (by decide) (Nat.le_of_ble_eq_true rfl) (fun p e s m below meth c X hnm hp ls hl => ?_)
  have hx := X.1.1
  have hb := X.1.2.1
  have hown := X.1.2.2.2.1
  have hts := X.1.2.2.2.2
  have hl : lv_has ls 2 [(0, .ref x0), (1, .ref x1)] := hl
  unfold fo_X10_of at hF
  refine lv_aload_n hx hb dX10_of_0 rfl (lv_at hl 1 rfl) ?_
  refine lv_aload_n hx hb dX10_of_1 rfl (lv_at hl 0 rfl) ?_
  obtain ⟨v1, e2, hF⟩ := ob_s hF
  refine m_getI X hp e2 kX10 (Nat.le_of_ble_eq_true rfl) q846 dX10_of_2 ?_
  obtain ⟨g5, hF⟩ := gd_s hF
  obtain ⟨v3, e4, hF⟩ := ob_s hF
  refine m_callF (rest := []) X hp (w_X1_fact e4) q1137 ⟨by show _ ≤ frr + 1; omega, by show _ ≤ lor + 23; omega⟩ g5 hl.1 (Nat.le_of_ble_eq_true rfl) dX10_of_5 ⟨Nat.le_refl 0, Nat.le_refl 0⟩ (fun H locs hp => ?_)
  cases hF
  exact m_iret X hp dX10_of_10
end
section
variable {l : Launch} {D : va_G} {n0 : Nat} {P : mP} {S : mSh} {M : mMm} {n : Nat} {p : Program} {e : Env} {s : State} {m : MethodId} {args : Array Value} {below : List Frame} {meth : Method} {c : Code}
abbrev Rm_X11_of (frr lor : Nat) : Room := { frames := frr + 1, cells := 0, slots := 0, locals := lor + 23 }
def fo_X11_of (S : mSh) (M : mMm) (rec : Nat → Nat → Option Int32) (x0 : Nat) (x1 : Nat) : Option Int32 := ob (rR S M x0 11 0) fun v1 => ob (rec v1 x1) fun v3 => ob (rR S M x0 11 1) fun v5 => ob (rec v5 x1) fun v7 => ob (rI S M x0 11 2) fun v9 => (if v9 = (5 : Int32) then some (v3 &&& v7) else (if v9 = (42 : Int32) then some (v3 * v7) else (if v9 = (43 : Int32) then some (v3 + v7) else (if v9 = (45 : Int32) then some (v3 - v7) else (if v9 = (47 : Int32) then gd (¬ v7 = 0) (some (v3 / v7)) else (if v9 = (60 : Int32) then (if v7 ≤ v3 then some (0 : Int32) else some (1 : Int32)) else (if v9 = (61 : Int32) then (if v3 = v7 then some (1 : Int32) else some (0 : Int32)) else (if v9 = (62 : Int32) then (if v3 ≤ v7 then some (0 : Int32) else some (1 : Int32)) else some (v3 ||| v7)))))))))
theorem wo_X11_of {x0 : Nat} {x1 : Nat} {r : Int32} {frr lor : Nat} {rec : Nat → Nat → Option Int32} (hrec : ∀ {a b : Nat} {r : Int32}, rec a b = some r → mTt l D n0 P S M n frr lor a b r) (hfl : 5 ≤ frr ∧ 108 ≤ lor) (hF : fo_X11_of S M rec x0 x1 = some r) : mCt l D n0 P yX11_of cX11_of 4 (some .int) (frr + 1) (lor + 23) 0 0 [.ref x0, .ref x1] S M n (some (.int r)) S M n := by
  refine m_ofW (by decide) (Nat.le_of_ble_eq_true rfl) (fun p e s m below meth c X hnm hp ls hl => ?_)
  have hx := X.1.1
  have hb := X.1.2.1
  have hown := X.1.2.2.2.1
  have hts := X.1.2.2.2.2
  have hl : lv_has ls 4 [(0, .ref x0), (1, .ref x1)] := hl
  unfold fo_X11_of at hF
  refine lv_aload_n hx hb dX11_of_0 rfl (lv_at hl 0 rfl) ?_
  obtain ⟨v1, e2, hF⟩ := ob_s hF
  refine m_getR X hp e2 kX11 (Nat.le_of_ble_eq_true rfl) q856 dX11_of_1 ?_
  refine lv_aload_n hx hb dX11_of_4 rfl (lv_at hl 1 rfl) ?_
  obtain ⟨v3, e4, hF⟩ := ob_s hF
  refine m_callT (rest := []) X hp (hrec e4) q1133 ⟨by show _ ≤ frr + 1; omega, by show _ ≤ lor + 23; omega⟩ hl.1 (Nat.le_of_ble_eq_true rfl) dX11_of_5 ⟨Nat.le_refl 0, Nat.le_refl 0⟩ (fun H locs hp => ?_)
  refine lv_istore_n (lv' := [(2, .int v3), (0, .ref x0), (1, .ref x1)]) hx hb dX11_of_8 rfl hl (by decide) rfl (fun ls hl => ?_)
  refine lv_aload_n hx hb dX11_of_9 rfl (lv_at hl 1 rfl) ?_
  obtain ⟨v5, e6, hF⟩ := ob_s hF
  refine m_getR X hp e6 kX11 (Nat.le_of_ble_eq_true rfl) q857 dX11_of_10 ?_
  refine lv_aload_n hx hb dX11_of_13 rfl (lv_at hl 2 rfl) ?_
  obtain ⟨v7, e8, hF⟩ := ob_s hF
  refine m_callT (rest := []) X hp (hrec e8) q1133 ⟨by show _ ≤ frr + 1; omega, by show _ ≤ lor + 23; omega⟩ hl.1 (Nat.le_of_ble_eq_true rfl) dX11_of_14 ⟨Nat.le_refl 0, Nat.le_refl 0⟩ (fun H locs hp => ?_)
  refine lv_istore_n (lv' := [(3, .int v7), (2, .int v3), (0, .ref x0), (1, .ref x1)]) hx hb dX11_of_17 rfl hl (by decide) rfl (fun ls hl => ?_)
  refine lv_aload_n hx hb dX11_of_18 rfl (lv_at hl 2 rfl) ?_
  obtain ⟨v9, e10, hF⟩ := ob_s hF
  refine m_getI X hp e10 kX11 (Nat.le_of_ble_eq_true rfl) q858 dX11_of_19 ?_
  by_cases c11 : v9 = (5 : Int32)
  · have hF := if_p c11 hF
    refine lv_lookup (x := v9) (tgt := 145) hx hb dX11_of_22 (by decide) (by rw [c11]) (by decide) ?_
    refine lv_iload_n hx hb dX11_of_145 rfl (lv_at hl 1 rfl) ?_
    refine lv_iload_n hx hb dX11_of_146 rfl (lv_at hl 0 rfl) ?_
    refine lv_iand hx hb dX11_of_147 ?_
    cases hF
    exact m_iret X hp dX11_of_148
  · have hF := if_n c11 hF
    by_cases c12 : v9 = (42 : Int32)
    · have hF := if_p c12 hF
      refine lv_lookup (x := v9) (tgt := 104) hx hb dX11_of_22 (by decide) (by rw [c12]) (by decide) ?_
      refine lv_iload_n hx hb dX11_of_104 rfl (lv_at hl 1 rfl) ?_
      refine lv_iload_n hx hb dX11_of_105 rfl (lv_at hl 0 rfl) ?_
      refine lv_imul hx hb dX11_of_106 ?_
      cases hF
      exact m_iret X hp dX11_of_107
    · have hF := if_n c12 hF
      by_cases c13 : v9 = (43 : Int32)
      · have hF := if_p c13 hF
        refine lv_lookup (x := v9) (tgt := 96) hx hb dX11_of_22 (by decide) (by rw [c13]) (by decide) ?_
        refine lv_iload_n hx hb dX11_of_96 rfl (lv_at hl 1 rfl) ?_
        refine lv_iload_n hx hb dX11_of_97 rfl (lv_at hl 0 rfl) ?_
        refine lv_iadd hx hb dX11_of_98 ?_
        cases hF
        exact m_iret X hp dX11_of_99
      · have hF := if_n c13 hF
        by_cases c14 : v9 = (45 : Int32)
        · have hF := if_p c14 hF
          refine lv_lookup (x := v9) (tgt := 100) hx hb dX11_of_22 (by decide) (by rw [c14]) (by decide) ?_
          refine lv_iload_n hx hb dX11_of_100 rfl (lv_at hl 1 rfl) ?_
          refine lv_iload_n hx hb dX11_of_101 rfl (lv_at hl 0 rfl) ?_
          refine lv_isub hx hb dX11_of_102 ?_
          cases hF
          exact m_iret X hp dX11_of_103
        · have hF := if_n c14 hF
          by_cases c15 : v9 = (47 : Int32)
          · have hF := if_p c15 hF
            refine lv_lookup (x := v9) (tgt := 108) hx hb dX11_of_22 (by decide) (by rw [c15]) (by decide) ?_
            refine lv_iload_n hx hb dX11_of_108 rfl (lv_at hl 1 rfl) ?_
            refine lv_iload_n hx hb dX11_of_109 rfl (lv_at hl 0 rfl) ?_
            obtain ⟨g16, hF⟩ := gd_s hF
            refine lv_idiv hx hb dX11_of_110 g16 ?_
            cases hF
            exact m_iret X hp dX11_of_111
          · have hF := if_n c15 hF
            by_cases c17 : v9 = (60 : Int32)
            · have hF := if_p c17 hF
              refine lv_lookup (x := v9) (tgt := 112) hx hb dX11_of_22 (by decide) (by rw [c17]) (by decide) ?_
              refine lv_iload_n hx hb dX11_of_112 rfl (lv_at hl 1 rfl) ?_
              refine lv_iload_n hx hb dX11_of_113 rfl (lv_at hl 0 rfl) ?_
              refine lv_icmp_ge (tgt := 121) hx hb dX11_of_114 (by decide) (fun c18 => ?_) (fun c18 => ?_)
              · have hF := if_p c18 hF
                refine lv_iconst (v := 0) hx hb dX11_of_121 (by decide) ?_
                cases hF
                exact m_iret X hp dX11_of_122
              · have hF := if_n c18 hF
                refine lv_iconst (v := 1) hx hb dX11_of_117 (by decide) ?_
                refine lv_goto (tgt := 122) hx hb dX11_of_118 (by decide) ?_
                cases hF
                exact m_iret X hp dX11_of_122
            · have hF := if_n c17 hF
              by_cases c19 : v9 = (61 : Int32)
              · have hF := if_p c19 hF
                refine lv_lookup (x := v9) (tgt := 123) hx hb dX11_of_22 (by decide) (by rw [c19]) (by decide) ?_
                refine lv_iload_n hx hb dX11_of_123 rfl (lv_at hl 1 rfl) ?_
                refine lv_iload_n hx hb dX11_of_124 rfl (lv_at hl 0 rfl) ?_
                refine lv_icmp_ne (tgt := 132) hx hb dX11_of_125 (by decide) (fun c20 => ?_) (fun c20 => ?_)
                · have hF := if_n c20 hF
                  refine lv_iconst (v := 0) hx hb dX11_of_132 (by decide) ?_
                  cases hF
                  exact m_iret X hp dX11_of_133
                · have hF := if_p c20 hF
                  refine lv_iconst (v := 1) hx hb dX11_of_128 (by decide) ?_
                  refine lv_goto (tgt := 133) hx hb dX11_of_129 (by decide) ?_
                  cases hF
                  exact m_iret X hp dX11_of_133
              · have hF := if_n c19 hF
                by_cases c21 : v9 = (62 : Int32)
                · have hF := if_p c21 hF
                  refine lv_lookup (x := v9) (tgt := 134) hx hb dX11_of_22 (by decide) (by rw [c21]) (by decide) ?_
                  refine lv_iload_n hx hb dX11_of_134 rfl (lv_at hl 1 rfl) ?_
                  refine lv_iload_n hx hb dX11_of_135 rfl (lv_at hl 0 rfl) ?_
                  refine lv_icmp_le (tgt := 143) hx hb dX11_of_136 (by decide) (fun c22 => ?_) (fun c22 => ?_)
                  · have hF := if_p c22 hF
                    refine lv_iconst (v := 0) hx hb dX11_of_143 (by decide) ?_
                    cases hF
                    exact m_iret X hp dX11_of_144
                  · have hF := if_n c22 hF
                    refine lv_iconst (v := 1) hx hb dX11_of_139 (by decide) ?_
                    refine lv_goto (tgt := 144) hx hb dX11_of_140 (by decide) ?_
                    cases hF
                    exact m_iret X hp dX11_of_144
                · have hF := if_n c21 hF
                  refine lv_lookup (x := v9) (off := 127) (tgt := 149) hx hb dX11_of_22 (by decide) ((lv_osw c11 (by decide)).trans ((lv_osw c12 (by decide)).trans ((lv_osw c13 (by decide)).trans ((lv_osw c14 (by decide)).trans ((lv_osw c15 (by decide)).trans ((lv_osw c17 (by decide)).trans ((lv_osw c19 (by decide)).trans ((lv_osw c21 (by decide)).trans rfl)))))))) (by decide) ?_
                  refine lv_iload_n hx hb dX11_of_149 rfl (lv_at hl 1 rfl) ?_
                  refine lv_iload_n hx hb dX11_of_150 rfl (lv_at hl 0 rfl) ?_
                  refine lv_ior hx hb dX11_of_151 ?_
                  cases hF
                  exact m_iret X hp dX11_of_152
end
section
variable {l : Launch} {D : va_G} {n0 : Nat} {P : mP} {S : mSh} {M : mMm} {n : Nat} {p : Program} {e : Env} {s : State} {m : MethodId} {args : Array Value} {below : List Frame} {meth : Method} {c : Code}
abbrev Rm_X12_of (frr lor : Nat) : Room := { frames := frr + 1, cells := 0, slots := 0, locals := lor + 23 }
def fo_X12_of (S : mSh) (M : mMm) (rec : Nat → Nat → Option Int32) (x0 : Nat) (x1 : Nat) : Option Int32 := ob (rR S M x0 12 0) fun v1 => ob (rec v1 x1) fun v3 => some ((1 : Int32) - v3)
theorem wo_X12_of {x0 : Nat} {x1 : Nat} {r : Int32} {frr lor : Nat} {rec : Nat → Nat → Option Int32} (hrec : ∀ {a b : Nat} {r : Int32}, rec a b = some r → mTt l D n0 P S M n frr lor a b r) (hfl : 5 ≤ frr ∧ 108 ≤ lor) (hF : fo_X12_of S M rec x0 x1 = some r) : mCt l D n0 P yX12_of cX12_of 2 (some .int) (frr + 1) (lor + 23) 0 0 [.ref x0, .ref x1] S M n (some (.int r)) S M n := by
  refine m_ofW (by decide) (Nat.le_of_ble_eq_true rfl) (fun p e s m below meth c X hnm hp ls hl => ?_)
  have hx := X.1.1
  have hb := X.1.2.1
  have hown := X.1.2.2.2.1
  have hts := X.1.2.2.2.2
  have hl : lv_has ls 2 [(0, .ref x0), (1, .ref x1)] := hl
  unfold fo_X12_of at hF
  refine lv_iconst (v := 1) hx hb dX12_of_0 (by decide) ?_
  refine lv_aload_n hx hb dX12_of_1 rfl (lv_at hl 0 rfl) ?_
  obtain ⟨v1, e2, hF⟩ := ob_s hF
  refine m_getR X hp e2 kX12 (Nat.le_of_ble_eq_true rfl) q888 dX12_of_2 ?_
  refine lv_aload_n hx hb dX12_of_5 rfl (lv_at hl 1 rfl) ?_
  obtain ⟨v3, e4, hF⟩ := ob_s hF
  refine m_callT (rest := [.int (1 : Int32)]) X hp (hrec e4) q1163 ⟨by show _ ≤ frr + 1; omega, by show _ ≤ lor + 23; omega⟩ hl.1 (Nat.le_of_ble_eq_true rfl) dX12_of_6 ⟨Nat.le_refl 0, Nat.le_refl 0⟩ (fun H locs hp => ?_)
  refine lv_isub hx hb dX12_of_9 ?_
  cases hF
  exact m_iret X hp dX12_of_10
end
def fd_T (S : mSh) (M : mMm) : Nat → Nat → Nat → Option Int32
  | 0, _, _ => none
  | d + 1, a, b => if (S a).1 = 9 then fo_X9_of S M (fd_T S M d) a b else if (S a).1 = 10 then fo_X10_of S M (fd_T S M d) a b else if (S a).1 = 11 then fo_X11_of S M (fd_T S M d) a b else if (S a).1 = 12 then fo_X12_of S M (fd_T S M d) a b else none
theorem wd_T {l : Launch} {D : va_G} {n0 : Nat} {P : mP} {S : mSh} {M : mMm} {n : Nat} : ∀ (d : Nat) {a b : Nat} {r : Int32}, fd_T S M d a b = some r → mTt l D n0 P S M n (1 * d + 5) (23 * d + 108) a b r
  | 0, _, _, _, h => by
    have h : none = some _ := h
    cases h
  | d + 1, a, b, r, h => by
    rw [fd_T] at h
    rw [show 1 * (d + 1) + 5 = 1 * d + 5 + 1 by omega, show 23 * (d + 1) + 108 = 23 * d + 108 + 23 by omega]
    by_cases h0 : (S a).1 = 9
    · exact Or.inl ⟨h0, wo_X9_of (fun h => wd_T d h) ⟨Nat.le_add_left _ _, Nat.le_add_left _ _⟩ (if_p h0 h)⟩
    · have h := if_n h0 h
      by_cases h1 : (S a).1 = 10
      · exact Or.inr (Or.inl ⟨h1, wo_X10_of (fun h => wd_T d h) ⟨Nat.le_add_left _ _, Nat.le_add_left _ _⟩ (if_p h1 h)⟩)
      · have h := if_n h1 h
        by_cases h2 : (S a).1 = 11
        · exact Or.inr (Or.inr (Or.inl ⟨h2, wo_X11_of (fun h => wd_T d h) ⟨Nat.le_add_left _ _, Nat.le_add_left _ _⟩ (if_p h2 h)⟩))
        · have h := if_n h2 h
          by_cases h3 : (S a).1 = 12
          · exact Or.inr (Or.inr (Or.inr (⟨h3, wo_X12_of (fun h => wd_T d h) ⟨Nat.le_add_left _ _, Nat.le_add_left _ _⟩ (if_p h3 h)⟩)))
          · have h := if_n h3 h
            cases h
def f_T (S : mSh) (M : mMm) (a b : Nat) : Option Int32 := fd_T S M 500 a b
theorem w_T {l : Launch} {D : va_G} {n0 : Nat} {P : mP} {S : mSh} {M : mMm} {n : Nat} {a b : Nat} {r : Int32} (h : f_T S M a b = some r) : mTt l D n0 P S M n 505 11608 a b r := wd_T 500 h
section
variable {l : Launch} {D : va_G} {n0 : Nat} {P : mP} {S : mSh} {M : mMm} {n : Nat} {p : Program} {e : Env} {s : State} {m : MethodId} {args : Array Value} {below : List Frame} {meth : Method} {c : Code}
abbrev Rm_X1_tells : Room := { frames := 506, cells := 0, slots := 0, locals := 11631 }
def fb_X1_tells_64 (S : mSh) (M : mMm) (x0 : Nat) (x4 : Int32) (x6 : Nat) : Option (Int32 × mMm) := ob (rR S M x6 13 1) fun v30 => ob (f_T S M v30 x0) fun v32 => ob (f_X0_bound v32 (0 : Int32) x4) fun v35 => some (v35, M)
theorem b_X1_tells_64 {r : Int32} {M' : mMm} (X : mCx D n0 P p m c cX1_tells 7 s args yX1_tells.cls meth (some .int)) : ∀ (M : mMm) (x0 : Nat) (x4 : Int32) (x6 : Nat) (H : Heap) (locs : List Loc) (ls : Array Slot), mHp D n0 S M n s H locs → lv_has ls 7 [(0, .ref x0), (4, .int x4), (6, .ref x6)] → fb_X1_tells_64 S M x0 x4 x6 = some (r, M') → W p l e Rm_X1_tells s m args below meth c H locs 0 0 (MQ below (mQ D n0 (some (.int r)) S M' n) args s 0 0 (mA n0)) (F0 m 64 ls []) := by
  have hx := X.1.1
  have hb := X.1.2.1
  have hown := X.1.2.2.2.1
  have hts := X.1.2.2.2.2
  intro M x0 x4 x6 H locs ls hp hl hF
  unfold fb_X1_tells_64 at hF
  refine lv_aload hx hb dX1_tells_64 (lv_at hl 2 rfl) ?_
  obtain ⟨v30, e31, hF⟩ := ob_s hF
  refine m_getRN X hp e31 kX13 (Nat.le_of_ble_eq_true rfl) q905 dX1_tells_66 ?_
  refine lv_aload_n hx hb dX1_tells_69 rfl (lv_at hl 0 rfl) ?_
  obtain ⟨v32, e33, hF⟩ := ob_s hF
  refine m_callT (rest := []) X hp (w_T e33) q1124 ⟨Nat.le_of_ble_eq_true rfl, Nat.le_of_ble_eq_true rfl⟩ hl.1 (Nat.le_of_ble_eq_true rfl) dX1_tells_70 ⟨Nat.le_refl 0, Nat.le_refl 0⟩ (fun H locs hp => ?_)
  refine lv_iconst (v := 0) hx hb dX1_tells_73 (by decide) ?_
  refine lv_iload hx hb dX1_tells_74 (lv_at hl 1 rfl) ?_
  obtain ⟨v35, e34, hF⟩ := ob_s hF
  refine m_callSN (As := [.int v32, .int (0 : Int32), .int x4]) (rest := []) X hp (w_X0_bound e34) q1166 q1167 q132 q1168 3 rfl ds_X0_bound ⟨Nat.le_of_ble_eq_true rfl, Nat.le_of_ble_eq_true rfl⟩ hl.1 rfl (Nat.le_of_ble_eq_true rfl) dX1_tells_76 ⟨Nat.le_refl 0, Nat.le_refl 0⟩ (fun H locs hp => ?_)
  cases hF
  exact m_iret X hp dX1_tells_79
def fb_X1_tells_80 (S : mSh) (k8 : mMm → Nat → Int32 → Int32 → Int32 → Int32 → Option (Int32 × mMm)) (M : mMm) (x0 : Nat) (x1 : Int32) (x3 : Int32) (x4 : Int32) (x5 : Int32) : Option (Int32 × mMm) := nm (x5 + (1 : Int32)) fun v36 => (k8 M x0 x1 x3 x4 v36)
theorem b_X1_tells_80 {r : Int32} {M' : mMm} (X : mCx D n0 P p m c cX1_tells 7 s args yX1_tells.cls meth (some .int)) (k8 : mMm → Nat → Int32 → Int32 → Int32 → Int32 → Option (Int32 × mMm)) (hk8 : ∀ (M : mMm) (x0 : Nat) (x1 : Int32) (x3 : Int32) (x4 : Int32) (x5 : Int32) (H : Heap) (locs : List Loc) (ls : Array Slot), mHp D n0 S M n s H locs → lv_has ls 7 [(0, .ref x0), (1, .int x1), (3, .int x3), (4, .int x4), (5, .int x5)] → k8 M x0 x1 x3 x4 x5 = some (r, M') → W p l e Rm_X1_tells s m args below meth c H locs 0 0 (MQ below (mQ D n0 (some (.int r)) S M' n) args s 0 0 (mA n0)) (F0 m 8 ls [])) : ∀ (M : mMm) (x0 : Nat) (x1 : Int32) (x3 : Int32) (x4 : Int32) (x5 : Int32) (H : Heap) (locs : List Loc) (ls : Array Slot), mHp D n0 S M n s H locs → lv_has ls 7 [(0, .ref x0), (1, .int x1), (3, .int x3), (4, .int x4), (5, .int x5)] → fb_X1_tells_80 S k8 M x0 x1 x3 x4 x5 = some (r, M') → W p l e Rm_X1_tells s m args below meth c H locs 0 0 (MQ below (mQ D n0 (some (.int r)) S M' n) args s 0 0 (mA n0)) (F0 m 80 ls []) := by
  have hx := X.1.1
  have hb := X.1.2.1
  have hown := X.1.2.2.2.1
  have hts := X.1.2.2.2.2
  intro M x0 x1 x3 x4 x5 H locs ls hp hl hF
  unfold fb_X1_tells_80 at hF
  obtain ⟨v36, ev37⟩ : ∃ y : Int32, y = x5 + (1 : Int32) := ⟨_, rfl⟩
  have hF := nm_s hF ev37
  refine lv_iinc (v := v36) (lv' := [(5, .int v36), (0, .ref x0), (1, .int x1), (3, .int x3), (4, .int x4)]) hx hb dX1_tells_80 hl (k := 4) rfl (by rw [ev37]; rfl) (by decide) rfl (fun ls hl => ?_)
  refine lv_goto (tgt := 8) hx hb dX1_tells_83 (by decide) ?_
  exact hk8 _ _ _ _ _ _ _ _ _ hp (lv_sub hl [1, 2, 3, 4, 0] rfl) hF
def fb_X1_tells_8 (S : mSh) : Nat → mMm → Nat → Int32 → Int32 → Int32 → Int32 → Option (Int32 × mMm)
  | 0, _, _, _, _, _, _ => none
  | t + 1, M, x0, x1, x3, x4, x5 => ob (rR S M x0 2 7) fun v5 => gd ((S v5).1 = 15) (ob (f_J2_size S M v5) fun v9 => (if v9 ≤ x5 then ob (f_X0_bound x3 (0 : Int32) x4) fun v12 => some (v12, M) else ob (rR S M x0 2 7) fun v13 => gd ((S v13).1 = 15) (ob (f_J2_get S M v13 x5) fun v17 => gd ((S v17).1 = 13) (ob (rI S M v17 13 0) fun v19 => (if v19 = x1 then ob (rQ S M v17 13 2) fun v22 => (if v22 = none then (fb_X1_tells_64 S M x0 x4 v17) else ob (rR S M v17 13 2) fun v25 => ob (f_T S M v25 x0) fun v27 => (if v27 = (1 : Int32) then (fb_X1_tells_64 S M x0 x4 v17) else (fb_X1_tells_80 S (fb_X1_tells_8 S t) M x0 x1 x3 x4 x5))) else (fb_X1_tells_80 S (fb_X1_tells_8 S t) M x0 x1 x3 x4 x5))))))
theorem b_X1_tells_8 {r : Int32} {M' : mMm} (X : mCx D n0 P p m c cX1_tells 7 s args yX1_tells.cls meth (some .int)) : ∀ t : Nat, ∀ (M : mMm) (x0 : Nat) (x1 : Int32) (x3 : Int32) (x4 : Int32) (x5 : Int32) (H : Heap) (locs : List Loc) (ls : Array Slot), mHp D n0 S M n s H locs → lv_has ls 7 [(0, .ref x0), (1, .int x1), (3, .int x3), (4, .int x4), (5, .int x5)] → fb_X1_tells_8 S t M x0 x1 x3 x4 x5 = some (r, M') → W p l e Rm_X1_tells s m args below meth c H locs 0 0 (MQ below (mQ D n0 (some (.int r)) S M' n) args s 0 0 (mA n0)) (F0 m 8 ls []) := by
  have hx := X.1.1
  have hb := X.1.2.1
  have hown := X.1.2.2.2.1
  have hts := X.1.2.2.2.2
  intro t
  induction t with
  | zero =>
    intro M x0 x1 x3 x4 x5 H locs ls hp hl hF
    have hF : none = some (r, M') := hF
    cases hF
  | succ t ih =>
    intro M x0 x1 x3 x4 x5 H locs ls hp hl hF
    rw [fb_X1_tells_8] at hF
    refine lv_iload hx hb dX1_tells_8 (lv_at hl 4 rfl) ?_
    refine lv_aload_n hx hb dX1_tells_10 rfl (lv_at hl 0 rfl) ?_
    obtain ⟨v5, e6, hF⟩ := ob_s hF
    refine m_getR X hp e6 kX1 (Nat.le_of_ble_eq_true rfl) q389 dX1_tells_11 ?_
    obtain ⟨g7, hF⟩ := gd_s hF
    obtain ⟨v9, e8, hF⟩ := ob_s hF
    refine m_callV (As := []) (rest := [.int x5]) X hp (w_J2_size e8) q1092 q808 q809 q138 q810 0 rfl ds_J2_size ⟨Nat.le_of_ble_eq_true rfl, Nat.le_of_ble_eq_true rfl⟩ 15 (T := TJ2) (N := 3) rfl (by decide) g7 hl.1 rfl (Nat.le_of_ble_eq_true rfl) dX1_tells_14 ⟨Nat.le_refl 0, Nat.le_refl 0⟩ (fun H locs hp => ?_)
    refine lv_icmp_ge (tgt := 86) hx hb dX1_tells_17 (by decide) (fun c10 => ?_) (fun c10 => ?_)
    · have hF := if_p c10 hF
      refine lv_iload_n hx hb dX1_tells_86 rfl (lv_at hl 2 rfl) ?_
      refine lv_iconst (v := 0) hx hb dX1_tells_87 (by decide) ?_
      refine lv_iload hx hb dX1_tells_88 (lv_at hl 3 rfl) ?_
      obtain ⟨v12, e11, hF⟩ := ob_s hF
      refine m_callSN (As := [.int x3, .int (0 : Int32), .int x4]) (rest := []) X hp (w_X0_bound e11) q1166 q1167 q132 q1168 3 rfl ds_X0_bound ⟨Nat.le_of_ble_eq_true rfl, Nat.le_of_ble_eq_true rfl⟩ hl.1 rfl (Nat.le_of_ble_eq_true rfl) dX1_tells_90 ⟨Nat.le_refl 0, Nat.le_refl 0⟩ (fun H locs hp => ?_)
      cases hF
      exact m_iret X hp dX1_tells_93
    · have hF := if_n c10 hF
      refine lv_aload_n hx hb dX1_tells_20 rfl (lv_at hl 0 rfl) ?_
      obtain ⟨v13, e14, hF⟩ := ob_s hF
      refine m_getR X hp e14 kX1 (Nat.le_of_ble_eq_true rfl) q389 dX1_tells_21 ?_
      refine lv_iload hx hb dX1_tells_24 (lv_at hl 4 rfl) ?_
      obtain ⟨g15, hF⟩ := gd_s hF
      obtain ⟨v17, e16, hF⟩ := ob_s hF
      refine m_callV (As := [.int x5]) (rest := []) X hp (w_J2_get e16) q1088 q1089 q1090 q138 q1091 1 rfl ds_J2_get ⟨Nat.le_of_ble_eq_true rfl, Nat.le_of_ble_eq_true rfl⟩ 15 (T := TJ2) (N := 3) rfl (by decide) g15 hl.1 rfl (Nat.le_of_ble_eq_true rfl) dX1_tells_26 ⟨Nat.le_refl 0, Nat.le_refl 0⟩ (fun H locs hp => ?_)
      obtain ⟨g18, hF⟩ := gd_s hF
      refine m_cast X hp kX13 g18 q1123 dX1_tells_29 ?_
      refine lv_astore (lv' := [(6, .ref v17), (0, .ref x0), (1, .int x1), (3, .int x3), (4, .int x4), (5, .int x5)]) hx hb dX1_tells_32 hl (by decide) rfl (fun ls hl => ?_)
      refine lv_aload hx hb dX1_tells_34 (lv_at hl 0 rfl) ?_
      obtain ⟨v19, e20, hF⟩ := ob_s hF
      refine m_getIN X hp e20 kX13 (Nat.le_of_ble_eq_true rfl) q903 dX1_tells_36 ?_
      refine lv_iload_n hx hb dX1_tells_39 rfl (lv_at hl 2 rfl) ?_
      refine lv_icmp_ne (tgt := 80) hx hb dX1_tells_40 (by decide) (fun c21 => ?_) (fun c21 => ?_)
      · have hF := if_n c21 hF
        exact b_X1_tells_80 X _ ih _ _ _ _ _ _ _ _ _ hp (lv_sub hl [1, 2, 3, 4, 5] rfl) hF
      · have hF := if_p c21 hF
        refine lv_aload hx hb dX1_tells_43 (lv_at hl 0 rfl) ?_
        obtain ⟨v22, e23, hF⟩ := ob_s hF
        refine m_getQ X hp e23 kX13 (Nat.le_of_ble_eq_true rfl) q907 dX1_tells_45 dX1_tells_48 (tgt := 64) (by decide) (fun c24 => ?_) (fun c24 => ?_)
        · have hF := if_p c24 hF
          exact b_X1_tells_64 X _ _ _ _ _ _ _ hp (lv_sub hl [1, 4, 0] rfl) hF
        · have hF := if_n c24 hF
          refine lv_aload hx hb dX1_tells_51 (lv_at hl 0 rfl) ?_
          obtain ⟨v25, e26, hF⟩ := ob_s hF
          refine m_getRN X hp e26 kX13 (Nat.le_of_ble_eq_true rfl) q907 dX1_tells_53 ?_
          refine lv_aload_n hx hb dX1_tells_56 rfl (lv_at hl 1 rfl) ?_
          obtain ⟨v27, e28, hF⟩ := ob_s hF
          refine m_callT (rest := []) X hp (w_T e28) q1124 ⟨Nat.le_of_ble_eq_true rfl, Nat.le_of_ble_eq_true rfl⟩ hl.1 (Nat.le_of_ble_eq_true rfl) dX1_tells_57 ⟨Nat.le_refl 0, Nat.le_refl 0⟩ (fun H locs hp => ?_)
          refine lv_iconst (v := 1) hx hb dX1_tells_60 (by decide) ?_
          refine lv_icmp_ne (tgt := 80) hx hb dX1_tells_61 (by decide) (fun c29 => ?_) (fun c29 => ?_)
          · have hF := if_n c29 hF
            exact b_X1_tells_80 X _ ih _ _ _ _ _ _ _ _ _ hp (lv_sub hl [1, 2, 3, 4, 5] rfl) hF
          · have hF := if_p c29 hF
            exact b_X1_tells_64 X _ _ _ _ _ _ _ hp (lv_sub hl [1, 4, 0] rfl) hF
def f_X1_tells (S : mSh) (M : mMm) (x0 : Nat) (x1 : Int32) (x2 : Nat) (x3 : Int32) (x4 : Int32) : Option (Int32 × mMm) := ob (wF S M x0 2 18 (.ref x2)) fun M1 => nm ((0 : Int32)) fun v3 => (fb_X1_tells_8 S FU M1 x0 x1 x3 x4 v3)
theorem w_X1_tells {x0 : Nat} {x1 : Int32} {x2 : Nat} {x3 : Int32} {x4 : Int32} {r : Int32} {M' : mMm} (hF : f_X1_tells S M x0 x1 x2 x3 x4 = some (r, M')) : mCt l D n0 P yX1_tells cX1_tells 7 (some .int) 506 11631 0 0 [.ref x0, .int x1, .ref x2, .int x3, .int x4] S M n (some (.int r)) S M' n := by
  refine m_ofW (by decide) (Nat.le_of_ble_eq_true rfl) (fun p e s m below meth c X hnm hp ls hl => ?_)
  have hx := X.1.1
  have hb := X.1.2.1
  have hown := X.1.2.2.2.1
  have hts := X.1.2.2.2.2
  have hl : lv_has ls 7 [(0, .ref x0), (1, .int x1), (2, .ref x2), (3, .int x3), (4, .int x4)] := hl
  unfold f_X1_tells at hF
  refine lv_aload_n hx hb dX1_tells_0 rfl (lv_at hl 0 rfl) ?_
  refine lv_aload_n hx hb dX1_tells_1 rfl (lv_at hl 2 rfl) ?_
  obtain ⟨M1, e2, hF⟩ := ob_s hF
  refine m_putW X hp e2 kX1 (Nat.le_of_ble_eq_true rfl) q412 rfl rfl rfl dX1_tells_2 (fun H locs hp => ?_)
  refine lv_iconst (v := 0) hx hb dX1_tells_5 (by decide) ?_
  refine lv_topi (fun v3 ev4 => ?_)
  have hF := nm_s hF ev4
  refine lv_istore (lv' := [(5, .int v3), (0, .ref x0), (1, .int x1), (2, .ref x2), (3, .int x3), (4, .int x4)]) hx hb dX1_tells_6 hl (by decide) rfl (fun ls hl => ?_)
  exact b_X1_tells_8 X _ _ _ _ _ _ _ _ _ _ hp (lv_sub hl [1, 2, 4, 5, 0] rfl) hF
end
section
variable {l : Launch} {D : va_G} {n0 : Nat} {P : mP} {S : mSh} {M : mMm} {n : Nat} {p : Program} {e : Env} {s : State} {m : MethodId} {args : Array Value} {below : List Frame} {meth : Method} {c : Code}
abbrev Rm_X1_pays : Room := { frames := 507, cells := 0, slots := 0, locals := 11657 }
def f_X1_pays (S : mSh) (M : mMm) (x0 : Nat) (x1 : Nat) : Option (Int32 × mMm) := ob (rI S M x1 5 3) fun v1 => gd ((S x0).1 = 2) (ob (f_X1_tells S M x0 (9 : Int32) x1 ((10 : Int32) - v1) (99 : Int32)) fun ⟨v5, M6⟩ => some (v5, M6))
theorem w_X1_pays {x0 : Nat} {x1 : Nat} {r : Int32} {M' : mMm} (hF : f_X1_pays S M x0 x1 = some (r, M')) : mCt l D n0 P yX1_pays cX1_pays 2 (some .int) 507 11657 0 0 [.ref x0, .ref x1] S M n (some (.int r)) S M' n := by
  refine m_ofW (by decide) (Nat.le_of_ble_eq_true rfl) (fun p e s m below meth c X hnm hp ls hl => ?_)
  have hx := X.1.1
  have hb := X.1.2.1
  have hown := X.1.2.2.2.1
  have hts := X.1.2.2.2.2
  have hl : lv_has ls 2 [(0, .ref x0), (1, .ref x1)] := hl
  unfold f_X1_pays at hF
  refine lv_aload_n hx hb dX1_pays_0 rfl (lv_at hl 0 rfl) ?_
  refine lv_bipush (v := 9) hx hb dX1_pays_1 (by decide) ?_
  refine lv_aload_n hx hb dX1_pays_3 rfl (lv_at hl 1 rfl) ?_
  refine lv_bipush (v := 10) hx hb dX1_pays_4 (by decide) ?_
  refine lv_aload_n hx hb dX1_pays_6 rfl (lv_at hl 1 rfl) ?_
  obtain ⟨v1, e2, hF⟩ := ob_s hF
  refine m_getIN X hp e2 kX4 (Nat.le_of_ble_eq_true rfl) q261 dX1_pays_7 ?_
  refine lv_isub hx hb dX1_pays_10 ?_
  refine lv_bipush (v := 99) hx hb dX1_pays_11 (by decide) ?_
  obtain ⟨g3, hF⟩ := gd_s hF
  obtain ⟨⟨v5, M6⟩, e4, hF⟩ := ob_s hF
  refine m_callV (As := [.int (9 : Int32), .ref x1, .int ((10 : Int32) - v1), .int (99 : Int32)]) (rest := []) X hp (w_X1_tells e4) q1119 q1121 qs37 q133 q1122 4 rfl ds_X1_tells ⟨Nat.le_of_ble_eq_true rfl, Nat.le_of_ble_eq_true rfl⟩ 2 (T := TX1) (N := 19) rfl (by decide) g3 hl.1 rfl (Nat.le_of_ble_eq_true rfl) dX1_pays_13 ⟨Nat.le_refl 0, Nat.le_refl 0⟩ (fun H locs hp => ?_)
  cases hF
  exact m_iret X hp dX1_pays_16
end
section
variable {l : Launch} {D : va_G} {n0 : Nat} {P : mP} {S : mSh} {M : mMm} {n : Nat} {p : Program} {e : Env} {s : State} {m : MethodId} {args : Array Value} {below : List Frame} {meth : Method} {c : Code}
abbrev Rm_X1_sees : Room := { frames := 507, cells := 0, slots := 0, locals := 11657 }
def f_X1_sees (S : mSh) (M : mMm) (x0 : Nat) (x1 : Nat) : Option (Int32 × mMm) := gd ((S x0).1 = 2) (ob (f_X1_watched S M x0) fun v3 => ob (f_X1_tells S M x0 (8 : Int32) x1 ((200 : Int32) * v3) (1000 : Int32)) fun ⟨v5, M6⟩ => some (v5, M6))
theorem w_X1_sees {x0 : Nat} {x1 : Nat} {r : Int32} {M' : mMm} (hF : f_X1_sees S M x0 x1 = some (r, M')) : mCt l D n0 P yX1_sees cX1_sees 2 (some .int) 507 11657 0 0 [.ref x0, .ref x1] S M n (some (.int r)) S M' n := by
  refine m_ofW (by decide) (Nat.le_of_ble_eq_true rfl) (fun p e s m below meth c X hnm hp ls hl => ?_)
  have hx := X.1.1
  have hb := X.1.2.1
  have hown := X.1.2.2.2.1
  have hts := X.1.2.2.2.2
  have hl : lv_has ls 2 [(0, .ref x0), (1, .ref x1)] := hl
  unfold f_X1_sees at hF
  refine lv_aload_n hx hb dX1_sees_0 rfl (lv_at hl 0 rfl) ?_
  refine lv_bipush (v := 8) hx hb dX1_sees_1 (by decide) ?_
  refine lv_aload_n hx hb dX1_sees_3 rfl (lv_at hl 1 rfl) ?_
  refine lv_sipush (v := 200) hx hb dX1_sees_4 (by decide) ?_
  refine lv_aload_n hx hb dX1_sees_7 rfl (lv_at hl 0 rfl) ?_
  obtain ⟨g1, hF⟩ := gd_s hF
  obtain ⟨v3, e2, hF⟩ := ob_s hF
  refine m_callV (As := []) (rest := [.int (200 : Int32), .ref x1, .int (8 : Int32), .ref x0]) X hp (w_X1_watched e2) q1156 q1158 qs38 q133 q1159 0 rfl ds_X1_watched ⟨Nat.le_of_ble_eq_true rfl, Nat.le_of_ble_eq_true rfl⟩ 2 (T := TX1) (N := 19) rfl (by decide) g1 hl.1 rfl (Nat.le_of_ble_eq_true rfl) dX1_sees_8 ⟨Nat.le_refl 0, Nat.le_refl 0⟩ (fun H locs hp => ?_)
  refine lv_imul hx hb dX1_sees_11 ?_
  refine lv_sipush (v := 1000) hx hb dX1_sees_12 (by decide) ?_
  obtain ⟨⟨v5, M6⟩, e4, hF⟩ := ob_s hF
  refine m_callV (As := [.int (8 : Int32), .ref x1, .int ((200 : Int32) * v3), .int (1000 : Int32)]) (rest := []) X hp (w_X1_tells e4) q1119 q1121 qs37 q133 q1122 4 rfl ds_X1_tells ⟨Nat.le_of_ble_eq_true rfl, Nat.le_of_ble_eq_true rfl⟩ 2 (T := TX1) (N := 19) rfl (by decide) g1 hl.1 rfl (Nat.le_of_ble_eq_true rfl) dX1_sees_15 ⟨Nat.le_refl 0, Nat.le_refl 0⟩ (fun H locs hp => ?_)
  cases hF
  exact m_iret X hp dX1_sees_18
end
section
variable {l : Launch} {D : va_G} {n0 : Nat} {P : mP} {S : mSh} {M : mMm} {n : Nat} {p : Program} {e : Env} {s : State} {m : MethodId} {args : Array Value} {below : List Frame} {meth : Method} {c : Code}
abbrev Rm_X1_draw : Room := { frames := 0, cells := 0, slots := 0, locals := 0 }
def f_X1_draw (S : mSh) (M : mMm) (x0 : Nat) (x1 : Int32) : Option (Int32 × mMm) := ob (rI S M x0 2 13) fun v1 => ob (wF S M x0 2 13 (.int (((1664525 : Int32) * v1) + (1013904223 : Int32)))) fun M3 => ob (rI S M3 x0 2 13) fun v5 => gd (¬ x1 = 0) (some (((v5.toUInt32 >>> ((8 : Int32).toUInt32 &&& Int32.toUInt32 31)).toInt32 - (v5.toUInt32 >>> ((8 : Int32).toUInt32 &&& Int32.toUInt32 31)).toInt32 / x1 * x1), M3))
theorem w_X1_draw {x0 : Nat} {x1 : Int32} {r : Int32} {M' : mMm} (hF : f_X1_draw S M x0 x1 = some (r, M')) : mCt l D n0 P yX1_draw cX1_draw 2 (some .int) 0 0 0 0 [.ref x0, .int x1] S M n (some (.int r)) S M' n := by
  refine m_ofW (by decide) (Nat.le_of_ble_eq_true rfl) (fun p e s m below meth c X hnm hp ls hl => ?_)
  have hx := X.1.1
  have hb := X.1.2.1
  have hown := X.1.2.2.2.1
  have hts := X.1.2.2.2.2
  have hl : lv_has ls 2 [(0, .ref x0), (1, .int x1)] := hl
  unfold f_X1_draw at hF
  refine lv_aload_n hx hb dX1_draw_0 rfl (lv_at hl 0 rfl) ?_
  refine lv_ldc hx hb hown (hts _ q1183) dX1_draw_1 ?_
  refine lv_aload_n hx hb dX1_draw_3 rfl (lv_at hl 0 rfl) ?_
  obtain ⟨v1, e2, hF⟩ := ob_s hF
  refine m_getI X hp e2 kX1 (Nat.le_of_ble_eq_true rfl) q402 dX1_draw_4 ?_
  refine lv_imul hx hb dX1_draw_7 ?_
  refine lv_ldc hx hb hown (hts _ q1184) dX1_draw_8 ?_
  refine lv_iadd hx hb dX1_draw_10 ?_
  obtain ⟨M3, e4, hF⟩ := ob_s hF
  refine m_putW X hp e4 kX1 (Nat.le_of_ble_eq_true rfl) q402 rfl rfl rfl dX1_draw_11 (fun H locs hp => ?_)
  refine lv_aload_n hx hb dX1_draw_14 rfl (lv_at hl 0 rfl) ?_
  obtain ⟨v5, e6, hF⟩ := ob_s hF
  refine m_getI X hp e6 kX1 (Nat.le_of_ble_eq_true rfl) q402 dX1_draw_15 ?_
  refine lv_bipush (v := 8) hx hb dX1_draw_18 (by decide) ?_
  refine lv_iushr hx hb dX1_draw_20 rfl ?_
  refine lv_iload_n hx hb dX1_draw_21 rfl (lv_at hl 1 rfl) ?_
  obtain ⟨g7, hF⟩ := gd_s hF
  refine lv_irem hx hb dX1_draw_22 g7 ?_
  cases hF
  exact m_iret X hp dX1_draw_23
end
section
variable {l : Launch} {D : va_G} {n0 : Nat} {P : mP} {S : mSh} {M : mMm} {n : Nat} {p : Program} {e : Env} {s : State} {m : MethodId} {args : Array Value} {below : List Frame} {meth : Method} {c : Code}
abbrev Rm_X1_falls : Room := { frames := 1, cells := 0, slots := 0, locals := 21 }
def f_X1_falls (S : mSh) (M : mMm) (x0 : Nat) (x1 : Int32) : Option (Int32 × mMm) := (if x1 ≤ 0 then some ((0 : Int32), M) else ob (rI S M x0 2 17) fun v2 => (if v2 = 0 then ob (f_X1_draw S M x0 (1000 : Int32)) fun ⟨v6, M7⟩ => (if x1 ≤ v6 then some ((0 : Int32), M7) else some ((1 : Int32), M7)) else (if x1 < (500 : Int32) then some ((0 : Int32), M) else some ((1 : Int32), M))))
theorem w_X1_falls {x0 : Nat} {x1 : Int32} {r : Int32} {M' : mMm} (hF : f_X1_falls S M x0 x1 = some (r, M')) : mCt l D n0 P yX1_falls cX1_falls 2 (some .boolean) 1 21 0 0 [.ref x0, .int x1] S M n (some (.int r)) S M' n := by
  refine m_ofW (by decide) (Nat.le_of_ble_eq_true rfl) (fun p e s m below meth c X hnm hp ls hl => ?_)
  have hx := X.1.1
  have hb := X.1.2.1
  have hown := X.1.2.2.2.1
  have hts := X.1.2.2.2.2
  have hl : lv_has ls 2 [(0, .ref x0), (1, .int x1)] := hl
  unfold f_X1_falls at hF
  refine lv_iload_n hx hb dX1_falls_0 rfl (lv_at hl 1 rfl) ?_
  refine lv_if_le (tgt := 36) hx hb dX1_falls_1 (by decide) (fun c1 => ?_) (fun c1 => ?_)
  · have hF := if_p c1 hF
    refine lv_iconst (v := 0) hx hb dX1_falls_36 (by decide) ?_
    cases hF
    exact m_zret X hp rfl dX1_falls_37
  · have hF := if_n c1 hF
    refine lv_aload_n hx hb dX1_falls_4 rfl (lv_at hl 0 rfl) ?_
    obtain ⟨v2, e3, hF⟩ := ob_s hF
    refine m_getI X hp e3 kX1 (Nat.le_of_ble_eq_true rfl) q411 dX1_falls_5 ?_
    refine lv_if_eq (tgt := 21) hx hb dX1_falls_8 (by decide) (fun c4 => ?_) (fun c4 => ?_)
    · have hF := if_p c4 hF
      refine lv_aload_n hx hb dX1_falls_21 rfl (lv_at hl 0 rfl) ?_
      refine lv_sipush (v := 1000) hx hb dX1_falls_22 (by decide) ?_
      obtain ⟨⟨v6, M7⟩, e5, hF⟩ := ob_s hF
      refine m_callV (As := [.int (1000 : Int32)]) (rest := []) X hp (w_X1_draw e5) q1179 q1180 q1181 q133 q1182 1 rfl ds_X1_draw ⟨Nat.le_of_ble_eq_true rfl, Nat.le_of_ble_eq_true rfl⟩ 2 (T := TX1) (N := 19) rfl (by decide) (rI_s e3).1 hl.1 rfl (Nat.le_of_ble_eq_true rfl) dX1_falls_25 ⟨Nat.le_refl 0, Nat.le_refl 0⟩ (fun H locs hp => ?_)
      refine lv_iload_n hx hb dX1_falls_28 rfl (lv_at hl 1 rfl) ?_
      refine lv_icmp_ge (tgt := 36) hx hb dX1_falls_29 (by decide) (fun c8 => ?_) (fun c8 => ?_)
      · have hF := if_p c8 hF
        refine lv_iconst (v := 0) hx hb dX1_falls_36 (by decide) ?_
        cases hF
        exact m_zret X hp rfl dX1_falls_37
      · have hF := if_n c8 hF
        refine lv_iconst (v := 1) hx hb dX1_falls_32 (by decide) ?_
        refine lv_goto (tgt := 37) hx hb dX1_falls_33 (by decide) ?_
        cases hF
        exact m_zret X hp rfl dX1_falls_37
    · have hF := if_n c4 hF
      refine lv_iload_n hx hb dX1_falls_11 rfl (lv_at hl 1 rfl) ?_
      refine lv_sipush (v := 500) hx hb dX1_falls_12 (by decide) ?_
      refine lv_icmp_lt (tgt := 36) hx hb dX1_falls_15 (by decide) (fun c9 => ?_) (fun c9 => ?_)
      · have hF := if_p c9 hF
        refine lv_iconst (v := 0) hx hb dX1_falls_36 (by decide) ?_
        cases hF
        exact m_zret X hp rfl dX1_falls_37
      · have hF := if_n c9 hF
        refine lv_goto (tgt := 32) hx hb dX1_falls_18 (by decide) ?_
        refine lv_iconst (v := 1) hx hb dX1_falls_32 (by decide) ?_
        refine lv_goto (tgt := 37) hx hb dX1_falls_33 (by decide) ?_
        cases hF
        exact m_zret X hp rfl dX1_falls_37
end
section
variable {l : Launch} {D : va_G} {n0 : Nat} {P : mP} {S : mSh} {M : mMm} {n : Nat} {p : Program} {e : Env} {s : State} {m : MethodId} {args : Array Value} {below : List Frame} {meth : Method} {c : Code}
abbrev Rm_X1_isOver : Room := { frames := 508, cells := 0, slots := 0, locals := 11678 }
def fb_X1_isOver_114 (S : mSh) (M : mMm) (x2 : Nat) (x3 : Int32) : Option (Int32 × mMm) := gd ((S x2).1 = 5) (ob (f_X4_goes S M x2) fun M52 => gd (x3 &&& 1 = x3) (some (x3, M52)))
theorem b_X1_isOver_114 {r : Int32} {M' : mMm} (X : mCx D n0 P p m c cX1_isOver 4 s args yX1_isOver.cls meth (some .boolean)) : ∀ (M : mMm) (x2 : Nat) (x3 : Int32) (H : Heap) (locs : List Loc) (ls : Array Slot), mHp D n0 S M n s H locs → lv_has ls 4 [(2, .ref x2), (3, .int x3)] → fb_X1_isOver_114 S M x2 x3 = some (r, M') → W p l e Rm_X1_isOver s m args below meth c H locs 0 0 (MQ below (mQ D n0 (some (.int r)) S M' n) args s 0 0 (mA n0)) (F0 m 114 ls []) := by
  have hx := X.1.1
  have hb := X.1.2.1
  have hown := X.1.2.2.2.1
  have hts := X.1.2.2.2.2
  intro M x2 x3 H locs ls hp hl hF
  unfold fb_X1_isOver_114 at hF
  refine lv_aload_n hx hb dX1_isOver_114 rfl (lv_at hl 0 rfl) ?_
  obtain ⟨g49, hF⟩ := gd_s hF
  obtain ⟨M52, e50, hF⟩ := ob_s hF
  refine m_callV (As := []) (rest := []) X hp (w_X4_goes e50) q305 q306 q307 q139 q308 0 rfl ds_X4_goes ⟨Nat.le_of_ble_eq_true rfl, Nat.le_of_ble_eq_true rfl⟩ 5 (T := TX4) (N := 11) rfl (by decide) g49 hl.1 rfl (Nat.le_of_ble_eq_true rfl) dX1_isOver_115 ⟨Nat.le_refl 0, Nat.le_refl 0⟩ (fun H locs hp => ?_)
  refine lv_iload_n hx hb dX1_isOver_118 rfl (lv_at hl 1 rfl) ?_
  obtain ⟨g53, hF⟩ := gd_s hF
  cases hF
  exact m_zret X hp ((bz_iff _).mpr g53) dX1_isOver_119
def fb_X1_isOver_27 (S : mSh) (M : mMm) (x0 : Nat) (x1 : Int32) (x2 : Nat) (y0 : Int32) : Option (Int32 × mMm) := (if y0 = 0 then (fb_X1_isOver_114 S M x2 y0) else ob (rI S M x2 5 8) fun v11 => ob (wF S M x2 5 8 (.int (v11 + (1 : Int32)))) fun M13 => ob (rI S M13 x2 5 3) fun v15 => gd ((S x0).1 = 2) (ob (f_X1_notes S M13 x0 (3 : Int32) x1 v15) fun M20 => ob (rI S M20 x0 2 12) fun v21 => ob (f_X1_pays S M20 x0 x2) fun ⟨v24, M25⟩ => ob (wF S M25 x0 2 12 (.int (v21 + v24))) fun M26 => ob (rI S M26 x2 5 3) fun v28 => (if v28 = 0 then ob (f_X1_sees S M26 x0 x2) fun ⟨v32, M33⟩ => ob (f_X1_falls S M33 x0 v32) fun ⟨v35, M36⟩ => (if v35 = 0 then (fb_X1_isOver_114 S M36 x2 y0) else ob (rI S M36 x2 5 9) fun v38 => ob (wF S M36 x2 5 9 (.int (v38 + (1 : Int32)))) fun M40 => ob (rI S M40 x0 2 12) fun v42 => ob (wF S M40 x0 2 12 (.int (v42 + (50 : Int32)))) fun M44 => ob (f_X1_notes S M44 x0 (4 : Int32) x1 (50 : Int32)) fun M48 => (fb_X1_isOver_114 S M48 x2 y0)) else (fb_X1_isOver_114 S M26 x2 y0))))
theorem b_X1_isOver_27 {r : Int32} {M' : mMm} (X : mCx D n0 P p m c cX1_isOver 4 s args yX1_isOver.cls meth (some .boolean)) : ∀ (M : mMm) (x0 : Nat) (x1 : Int32) (x2 : Nat) (y0 : Int32) (H : Heap) (locs : List Loc) (ls : Array Slot), mHp D n0 S M n s H locs → lv_has ls 4 [(0, .ref x0), (1, .int x1), (2, .ref x2)] → fb_X1_isOver_27 S M x0 x1 x2 y0 = some (r, M') → W p l e Rm_X1_isOver s m args below meth c H locs 0 0 (MQ below (mQ D n0 (some (.int r)) S M' n) args s 0 0 (mA n0)) (F0 m 27 ls [.int y0]) := by
  have hx := X.1.1
  have hb := X.1.2.1
  have hown := X.1.2.2.2.1
  have hts := X.1.2.2.2.2
  intro M x0 x1 x2 y0 H locs ls hp hl hF
  unfold fb_X1_isOver_27 at hF
  refine lv_istore_n (lv' := [(3, .int y0), (0, .ref x0), (1, .int x1), (2, .ref x2)]) hx hb dX1_isOver_27 rfl hl (by decide) rfl (fun ls hl => ?_)
  refine lv_iload_n hx hb dX1_isOver_28 rfl (lv_at hl 0 rfl) ?_
  refine lv_if_eq (tgt := 114) hx hb dX1_isOver_29 (by decide) (fun c10 => ?_) (fun c10 => ?_)
  · have hF := if_p c10 hF
    exact b_X1_isOver_114 X _ _ _ _ _ _ hp (lv_sub hl [3, 0] rfl) hF
  · have hF := if_n c10 hF
    refine lv_aload_n hx hb dX1_isOver_32 rfl (lv_at hl 3 rfl) ?_
    refine lv_dup hx hb dX1_isOver_33 rfl ?_
    obtain ⟨v11, e12, hF⟩ := ob_s hF
    refine m_getIN X hp e12 kX4 (Nat.le_of_ble_eq_true rfl) q274 dX1_isOver_34 ?_
    refine lv_iconst (v := 1) hx hb dX1_isOver_37 (by decide) ?_
    refine lv_iadd hx hb dX1_isOver_38 ?_
    obtain ⟨M13, e14, hF⟩ := ob_s hF
    refine m_putWN X hp e14 kX4 (Nat.le_of_ble_eq_true rfl) q274 rfl rfl rfl dX1_isOver_39 (fun H locs hp => ?_)
    refine lv_aload_n hx hb dX1_isOver_42 rfl (lv_at hl 1 rfl) ?_
    refine lv_iconst (v := 3) hx hb dX1_isOver_43 (by decide) ?_
    refine lv_iload_n hx hb dX1_isOver_44 rfl (lv_at hl 2 rfl) ?_
    refine lv_aload_n hx hb dX1_isOver_45 rfl (lv_at hl 3 rfl) ?_
    obtain ⟨v15, e16, hF⟩ := ob_s hF
    refine m_getIN X hp e16 kX4 (Nat.le_of_ble_eq_true rfl) q261 dX1_isOver_46 ?_
    obtain ⟨g17, hF⟩ := gd_s hF
    obtain ⟨M20, e18, hF⟩ := ob_s hF
    refine m_callV (As := [.int (3 : Int32), .int x1, .int v15]) (rest := []) X hp (w_X1_notes e18) q1044 q1046 qs32 q133 q1047 3 rfl ds_X1_notes ⟨Nat.le_of_ble_eq_true rfl, Nat.le_of_ble_eq_true rfl⟩ 2 (T := TX1) (N := 19) rfl (by decide) g17 hl.1 rfl (Nat.le_of_ble_eq_true rfl) dX1_isOver_49 ⟨Nat.le_refl 0, Nat.le_refl 0⟩ (fun H locs hp => ?_)
    refine lv_aload_n hx hb dX1_isOver_52 rfl (lv_at hl 1 rfl) ?_
    refine lv_dup hx hb dX1_isOver_53 rfl ?_
    obtain ⟨v21, e22, hF⟩ := ob_s hF
    refine m_getI X hp e22 kX1 (Nat.le_of_ble_eq_true rfl) q400 dX1_isOver_54 ?_
    refine lv_aload_n hx hb dX1_isOver_57 rfl (lv_at hl 1 rfl) ?_
    refine lv_aload_n hx hb dX1_isOver_58 rfl (lv_at hl 3 rfl) ?_
    obtain ⟨⟨v24, M25⟩, e23, hF⟩ := ob_s hF
    refine m_callV (As := [.ref x2]) (rest := [.int v21, .ref x0]) X hp (w_X1_pays e23) q1115 q1116 q1117 q133 q1118 1 rfl ds_X1_pays ⟨Nat.le_of_ble_eq_true rfl, Nat.le_of_ble_eq_true rfl⟩ 2 (T := TX1) (N := 19) rfl (by decide) (rI_s e22).1 hl.1 rfl (Nat.le_of_ble_eq_true rfl) dX1_isOver_59 ⟨Nat.le_refl 0, Nat.le_refl 0⟩ (fun H locs hp => ?_)
    refine lv_iadd hx hb dX1_isOver_62 ?_
    obtain ⟨M26, e27, hF⟩ := ob_s hF
    refine m_putW X hp e27 kX1 (Nat.le_of_ble_eq_true rfl) q400 rfl rfl rfl dX1_isOver_63 (fun H locs hp => ?_)
    refine lv_aload_n hx hb dX1_isOver_66 rfl (lv_at hl 3 rfl) ?_
    obtain ⟨v28, e29, hF⟩ := ob_s hF
    refine m_getIN X hp e29 kX4 (Nat.le_of_ble_eq_true rfl) q261 dX1_isOver_67 ?_
    refine lv_if_ne (tgt := 114) hx hb dX1_isOver_70 (by decide) (fun c30 => ?_) (fun c30 => ?_)
    · have hF := if_n c30 hF
      exact b_X1_isOver_114 X _ _ _ _ _ _ hp (lv_sub hl [3, 0] rfl) hF
    · have hF := if_p c30 hF
      refine lv_aload_n hx hb dX1_isOver_73 rfl (lv_at hl 1 rfl) ?_
      refine lv_aload_n hx hb dX1_isOver_74 rfl (lv_at hl 1 rfl) ?_
      refine lv_aload_n hx hb dX1_isOver_75 rfl (lv_at hl 3 rfl) ?_
      obtain ⟨⟨v32, M33⟩, e31, hF⟩ := ob_s hF
      refine m_callV (As := [.ref x2]) (rest := [.ref x0]) X hp (w_X1_sees e31) q1171 q1172 q1173 q133 q1174 1 rfl ds_X1_sees ⟨Nat.le_of_ble_eq_true rfl, Nat.le_of_ble_eq_true rfl⟩ 2 (T := TX1) (N := 19) rfl (by decide) (wF_s e27).1 hl.1 rfl (Nat.le_of_ble_eq_true rfl) dX1_isOver_76 ⟨Nat.le_refl 0, Nat.le_refl 0⟩ (fun H locs hp => ?_)
      obtain ⟨⟨v35, M36⟩, e34, hF⟩ := ob_s hF
      refine m_callV (As := [.int v32]) (rest := []) X hp (w_X1_falls e34) q1175 q1177 qs39 q133 q1178 1 rfl ds_X1_falls ⟨Nat.le_of_ble_eq_true rfl, Nat.le_of_ble_eq_true rfl⟩ 2 (T := TX1) (N := 19) rfl (by decide) (wF_s e27).1 hl.1 rfl (Nat.le_of_ble_eq_true rfl) dX1_isOver_79 ⟨Nat.le_refl 0, Nat.le_refl 0⟩ (fun H locs hp => ?_)
      refine lv_if_eq (tgt := 114) hx hb dX1_isOver_82 (by decide) (fun c37 => ?_) (fun c37 => ?_)
      · have hF := if_p c37 hF
        exact b_X1_isOver_114 X _ _ _ _ _ _ hp (lv_sub hl [3, 0] rfl) hF
      · have hF := if_n c37 hF
        refine lv_aload_n hx hb dX1_isOver_85 rfl (lv_at hl 3 rfl) ?_
        refine lv_dup hx hb dX1_isOver_86 rfl ?_
        obtain ⟨v38, e39, hF⟩ := ob_s hF
        refine m_getIN X hp e39 kX4 (Nat.le_of_ble_eq_true rfl) q277 dX1_isOver_87 ?_
        refine lv_iconst (v := 1) hx hb dX1_isOver_90 (by decide) ?_
        refine lv_iadd hx hb dX1_isOver_91 ?_
        obtain ⟨M40, e41, hF⟩ := ob_s hF
        refine m_putWN X hp e41 kX4 (Nat.le_of_ble_eq_true rfl) q277 rfl rfl rfl dX1_isOver_92 (fun H locs hp => ?_)
        refine lv_aload_n hx hb dX1_isOver_95 rfl (lv_at hl 1 rfl) ?_
        refine lv_dup hx hb dX1_isOver_96 rfl ?_
        obtain ⟨v42, e43, hF⟩ := ob_s hF
        refine m_getI X hp e43 kX1 (Nat.le_of_ble_eq_true rfl) q400 dX1_isOver_97 ?_
        refine lv_bipush (v := 50) hx hb dX1_isOver_100 (by decide) ?_
        refine lv_iadd hx hb dX1_isOver_102 ?_
        obtain ⟨M44, e45, hF⟩ := ob_s hF
        refine m_putW X hp e45 kX1 (Nat.le_of_ble_eq_true rfl) q400 rfl rfl rfl dX1_isOver_103 (fun H locs hp => ?_)
        refine lv_aload_n hx hb dX1_isOver_106 rfl (lv_at hl 1 rfl) ?_
        refine lv_iconst (v := 4) hx hb dX1_isOver_107 (by decide) ?_
        refine lv_iload_n hx hb dX1_isOver_108 rfl (lv_at hl 2 rfl) ?_
        refine lv_bipush (v := 50) hx hb dX1_isOver_109 (by decide) ?_
        obtain ⟨M48, e46, hF⟩ := ob_s hF
        refine m_callV (As := [.int (4 : Int32), .int x1, .int (50 : Int32)]) (rest := []) X hp (w_X1_notes e46) q1044 q1046 qs32 q133 q1047 3 rfl ds_X1_notes ⟨Nat.le_of_ble_eq_true rfl, Nat.le_of_ble_eq_true rfl⟩ 2 (T := TX1) (N := 19) rfl (by decide) (wF_s e45).1 hl.1 rfl (Nat.le_of_ble_eq_true rfl) dX1_isOver_111 ⟨Nat.le_refl 0, Nat.le_refl 0⟩ (fun H locs hp => ?_)
        exact b_X1_isOver_114 X _ _ _ _ _ _ hp (lv_sub hl [3, 0] rfl) hF
def f_X1_isOver (S : mSh) (M : mMm) (x0 : Nat) (x1 : Int32) : Option (Int32 × mMm) := ob (rR S M x0 2 1) fun v1 => ob (aR S M v1 104 x1) fun v3 => ob (rI S M v3 5 2) fun v5 => ob (rI S M v3 5 5) fun v7 => (if v5 = ((v7 + (2 : Int32)) - (v7 + (2 : Int32)) / (4 : Int32) * (4 : Int32)) then (fb_X1_isOver_27 S M x0 x1 v3 (0 : Int32)) else (fb_X1_isOver_27 S M x0 x1 v3 (1 : Int32)))
theorem w_X1_isOver {x0 : Nat} {x1 : Int32} {r : Int32} {M' : mMm} (hF : f_X1_isOver S M x0 x1 = some (r, M')) : mCt l D n0 P yX1_isOver cX1_isOver 4 (some .boolean) 508 11678 0 0 [.ref x0, .int x1] S M n (some (.int r)) S M' n := by
  refine m_ofW (by decide) (Nat.le_of_ble_eq_true rfl) (fun p e s m below meth c X hnm hp ls hl => ?_)
  have hx := X.1.1
  have hb := X.1.2.1
  have hown := X.1.2.2.2.1
  have hts := X.1.2.2.2.2
  have hl : lv_has ls 4 [(0, .ref x0), (1, .int x1)] := hl
  unfold f_X1_isOver at hF
  refine lv_aload_n hx hb dX1_isOver_0 rfl (lv_at hl 0 rfl) ?_
  obtain ⟨v1, e2, hF⟩ := ob_s hF
  refine m_getR X hp e2 kX1 (Nat.le_of_ble_eq_true rfl) q377 dX1_isOver_1 ?_
  refine lv_iload_n hx hb dX1_isOver_4 rfl (lv_at hl 1 rfl) ?_
  obtain ⟨v3, e4, hF⟩ := ob_s hF
  refine m_aaR 104 X hp e4 rfl (by decide) rfl dX1_isOver_5 ?_
  refine lv_astore_n (lv' := [(2, .ref v3), (0, .ref x0), (1, .int x1)]) hx hb dX1_isOver_6 rfl hl (by decide) rfl (fun ls hl => ?_)
  refine lv_aload_n hx hb dX1_isOver_7 rfl (lv_at hl 0 rfl) ?_
  obtain ⟨v5, e6, hF⟩ := ob_s hF
  refine m_getIN X hp e6 kX4 (Nat.le_of_ble_eq_true rfl) q258 dX1_isOver_8 ?_
  refine lv_aload_n hx hb dX1_isOver_11 rfl (lv_at hl 0 rfl) ?_
  obtain ⟨v7, e8, hF⟩ := ob_s hF
  refine m_getIN X hp e8 kX4 (Nat.le_of_ble_eq_true rfl) q267 dX1_isOver_12 ?_
  refine lv_iconst (v := 2) hx hb dX1_isOver_15 (by decide) ?_
  refine lv_iadd hx hb dX1_isOver_16 ?_
  refine lv_iconst (v := 4) hx hb dX1_isOver_17 (by decide) ?_
  refine lv_irem hx hb dX1_isOver_18 (by decide) ?_
  refine lv_icmp_eq (tgt := 26) hx hb dX1_isOver_19 (by decide) (fun c9 => ?_) (fun c9 => ?_)
  · have hF := if_p c9 hF
    refine lv_iconst (v := 0) hx hb dX1_isOver_26 (by decide) ?_
    exact b_X1_isOver_27 X _ _ _ _ _ _ _ _ hp (lv_sub hl [1, 2, 0] rfl) hF
  · have hF := if_n c9 hF
    refine lv_iconst (v := 1) hx hb dX1_isOver_22 (by decide) ?_
    refine lv_goto (tgt := 27) hx hb dX1_isOver_23 (by decide) ?_
    exact b_X1_isOver_27 X _ _ _ _ _ _ _ _ hp (lv_sub hl [1, 2, 0] rfl) hF
end
section
variable {l : Launch} {D : va_G} {n0 : Nat} {P : mP} {S : mSh} {M : mMm} {n : Nat} {p : Program} {e : Env} {s : State} {m : MethodId} {args : Array Value} {below : List Frame} {meth : Method} {c : Code}
abbrev Rm_X1_slips : Room := { frames := 507, cells := 0, slots := 0, locals := 11657 }
def fb_X1_slips_31 (S : mSh) (M : mMm) (x1 : Nat) (y0 : Int32) (y1 : Nat) (y2 : Int32) (y3 : Nat) : Option (Int32 × mMm) := ob (rI S M x1 5 0) fun v12 => gd ((S y3).1 = 2) (ob (f_X1_tells S M y3 y2 y1 (y0 + ((20 : Int32) * v12)) (1000 : Int32)) fun ⟨v16, M17⟩ => some (v16, M17))
theorem b_X1_slips_31 {r : Int32} {M' : mMm} (X : mCx D n0 P p m c cX1_slips 2 s args yX1_slips.cls meth (some .int)) : ∀ (M : mMm) (x1 : Nat) (y0 : Int32) (y1 : Nat) (y2 : Int32) (y3 : Nat) (H : Heap) (locs : List Loc) (ls : Array Slot), mHp D n0 S M n s H locs → lv_has ls 2 [(1, .ref x1)] → fb_X1_slips_31 S M x1 y0 y1 y2 y3 = some (r, M') → W p l e Rm_X1_slips s m args below meth c H locs 0 0 (MQ below (mQ D n0 (some (.int r)) S M' n) args s 0 0 (mA n0)) (F0 m 31 ls [.int y0, .ref y1, .int y2, .ref y3]) := by
  have hx := X.1.1
  have hb := X.1.2.1
  have hown := X.1.2.2.2.1
  have hts := X.1.2.2.2.2
  intro M x1 y0 y1 y2 y3 H locs ls hp hl hF
  unfold fb_X1_slips_31 at hF
  refine lv_bipush (v := 20) hx hb dX1_slips_31 (by decide) ?_
  refine lv_aload_n hx hb dX1_slips_33 rfl (lv_at hl 0 rfl) ?_
  obtain ⟨v12, e13, hF⟩ := ob_s hF
  refine m_getIN X hp e13 kX4 (Nat.le_of_ble_eq_true rfl) q252 dX1_slips_34 ?_
  refine lv_imul hx hb dX1_slips_37 ?_
  refine lv_iadd hx hb dX1_slips_38 ?_
  refine lv_sipush (v := 1000) hx hb dX1_slips_39 (by decide) ?_
  obtain ⟨g14, hF⟩ := gd_s hF
  obtain ⟨⟨v16, M17⟩, e15, hF⟩ := ob_s hF
  refine m_callV (As := [.int y2, .ref y1, .int (y0 + ((20 : Int32) * v12)), .int (1000 : Int32)]) (rest := []) X hp (w_X1_tells e15) q1119 q1121 qs37 q133 q1122 4 rfl ds_X1_tells ⟨Nat.le_of_ble_eq_true rfl, Nat.le_of_ble_eq_true rfl⟩ 2 (T := TX1) (N := 19) rfl (by decide) g14 hl.1 rfl (Nat.le_of_ble_eq_true rfl) dX1_slips_42 ⟨Nat.le_refl 0, Nat.le_refl 0⟩ (fun H locs hp => ?_)
  cases hF
  exact m_iret X hp dX1_slips_45
def f_X1_slips (S : mSh) (M : mMm) (x0 : Nat) (x1 : Nat) : Option (Int32 × mMm) := gd ((S x1).1 = 5) (ob (f_X4_isIn S M x1) fun v3 => (if v3 = 0 then (fb_X1_slips_31 S M x1 (0 : Int32) x1 (7 : Int32) x0) else ob (rR S M x0 2 0) fun v5 => ob (rI S M x1 5 1) fun v7 => ob (aI S M v5 100 v7) fun v9 => (if v9 = (2 : Int32) then (fb_X1_slips_31 S M x1 (300 : Int32) x1 (7 : Int32) x0) else (fb_X1_slips_31 S M x1 (0 : Int32) x1 (7 : Int32) x0))))
theorem w_X1_slips {x0 : Nat} {x1 : Nat} {r : Int32} {M' : mMm} (hF : f_X1_slips S M x0 x1 = some (r, M')) : mCt l D n0 P yX1_slips cX1_slips 2 (some .int) 507 11657 0 0 [.ref x0, .ref x1] S M n (some (.int r)) S M' n := by
  refine m_ofW (by decide) (Nat.le_of_ble_eq_true rfl) (fun p e s m below meth c X hnm hp ls hl => ?_)
  have hx := X.1.1
  have hb := X.1.2.1
  have hown := X.1.2.2.2.1
  have hts := X.1.2.2.2.2
  have hl : lv_has ls 2 [(0, .ref x0), (1, .ref x1)] := hl
  unfold f_X1_slips at hF
  refine lv_aload_n hx hb dX1_slips_0 rfl (lv_at hl 0 rfl) ?_
  refine lv_bipush (v := 7) hx hb dX1_slips_1 (by decide) ?_
  refine lv_aload_n hx hb dX1_slips_3 rfl (lv_at hl 1 rfl) ?_
  refine lv_aload_n hx hb dX1_slips_4 rfl (lv_at hl 1 rfl) ?_
  obtain ⟨g1, hF⟩ := gd_s hF
  obtain ⟨v3, e2, hF⟩ := ob_s hF
  refine m_callV (As := []) (rest := [.ref x1, .int (7 : Int32), .ref x0]) X hp (w_X4_isIn e2) q931 q932 q933 q139 q934 0 rfl ds_X4_isIn ⟨Nat.le_of_ble_eq_true rfl, Nat.le_of_ble_eq_true rfl⟩ 5 (T := TX4) (N := 11) rfl (by decide) g1 hl.1 rfl (Nat.le_of_ble_eq_true rfl) dX1_slips_5 ⟨Nat.le_refl 0, Nat.le_refl 0⟩ (fun H locs hp => ?_)
  refine lv_if_eq (tgt := 30) hx hb dX1_slips_8 (by decide) (fun c4 => ?_) (fun c4 => ?_)
  · have hF := if_p c4 hF
    refine lv_iconst (v := 0) hx hb dX1_slips_30 (by decide) ?_
    exact b_X1_slips_31 X _ _ _ _ _ _ _ _ _ hp (lv_sub hl [1] rfl) hF
  · have hF := if_n c4 hF
    refine lv_aload_n hx hb dX1_slips_11 rfl (lv_at hl 0 rfl) ?_
    obtain ⟨v5, e6, hF⟩ := ob_s hF
    refine m_getR X hp e6 kX1 (Nat.le_of_ble_eq_true rfl) q375 dX1_slips_12 ?_
    refine lv_aload_n hx hb dX1_slips_15 rfl (lv_at hl 1 rfl) ?_
    obtain ⟨v7, e8, hF⟩ := ob_s hF
    refine m_getIN X hp e8 kX4 (Nat.le_of_ble_eq_true rfl) q255 dX1_slips_16 ?_
    obtain ⟨v9, e10, hF⟩ := ob_s hF
    refine m_iaI X hp e10 dX1_slips_19 ?_
    refine lv_iconst (v := 2) hx hb dX1_slips_20 (by decide) ?_
    refine lv_icmp_ne (tgt := 30) hx hb dX1_slips_21 (by decide) (fun c11 => ?_) (fun c11 => ?_)
    · have hF := if_n c11 hF
      refine lv_iconst (v := 0) hx hb dX1_slips_30 (by decide) ?_
      exact b_X1_slips_31 X _ _ _ _ _ _ _ _ _ hp (lv_sub hl [1] rfl) hF
    · have hF := if_p c11 hF
      refine lv_sipush (v := 300) hx hb dX1_slips_24 (by decide) ?_
      refine lv_goto (tgt := 31) hx hb dX1_slips_27 (by decide) ?_
      exact b_X1_slips_31 X _ _ _ _ _ _ _ _ _ hp (lv_sub hl [1] rfl) hF
end
section
variable {l : Launch} {D : va_G} {n0 : Nat} {P : mP} {S : mSh} {M : mMm} {n : Nat} {p : Program} {e : Env} {s : State} {m : MethodId} {args : Array Value} {below : List Frame} {meth : Method} {c : Code}
abbrev Rm_X1_goesOn (frr lor : Nat) : Room := { frames := frr + 1, cells := 0, slots := 0, locals := lor + 24 }
def fo_X1_goesOn (S : mSh) (rec : mMm → Nat → Int32 → Int32 → Option (Int32 × mMm)) (M : mMm) (x0 : Nat) (x1 : Int32) (x2 : Int32) : Option (Int32 × mMm) := ob (rR S M x0 2 1) fun v1 => ob (aR S M v1 104 x1) fun v3 => ob (rI S M v3 5 1) fun v5 => ob (rI S M v3 5 2) fun v7 => ob (f_X0_on v5 v7) fun v10 => (if v10 = (-1 : Int32) then ob (f_X1_isOver S M x0 x1) fun ⟨v47, M48⟩ => gd (v47 &&& 1 = v47) (some (v47, M48)) else ob (f_X1_isFree S M x0 v10) fun v13 => (if v13 = 0 then ob (rI S M v3 5 1) fun v41 => ob (f_X1_notes S M x0 (5 : Int32) x1 v41) fun M45 => some ((0 : Int32), M45) else ob (wF S M v3 5 1 (.int v10)) fun M15 => (if x2 = 0 then ob (rR S M15 x0 2 0) fun v18 => ob (aI S M15 v18 100 v10) fun v20 => (if v20 = (2 : Int32) then ob (f_X1_slips S M15 x0 v3) fun ⟨v24, M25⟩ => ob (f_X1_falls S M25 x0 v24) fun ⟨v27, M28⟩ => (if v27 = 0 then some ((0 : Int32), M28) else ob (rI S M28 v3 5 10) fun v30 => ob (wF S M28 v3 5 10 (.int (v30 + (1 : Int32)))) fun M32 => ob (f_X1_notes S M32 x0 (2 : Int32) x1 v10) fun M36 => ob (rec M36 x0 x1 (1 : Int32)) fun ⟨v38, M39⟩ => gd (v38 &&& 1 = v38) (some (v38, M39))) else some ((0 : Int32), M15)) else some ((0 : Int32), M15))))
theorem wo_X1_goesOn {x0 : Nat} {x1 : Int32} {x2 : Int32} {r : Int32} {M' : mMm} {frr lor : Nat} {rec : mMm → Nat → Int32 → Int32 → Option (Int32 × mMm)} (hrec : ∀ {M M' : mMm} {x0 : Nat} {x1 : Int32} {x2 : Int32} {r : Int32}, rec M x0 x1 x2 = some (r, M') → mCt l D n0 P yX1_goesOn cX1_goesOn 5 (some .boolean) frr lor 0 0 [.ref x0, .int x1, .int x2] S M n (some (.int r)) S M' n) (hfl : 509 ≤ frr ∧ 11701 ≤ lor) (hF : fo_X1_goesOn S rec M x0 x1 x2 = some (r, M')) : mCt l D n0 P yX1_goesOn cX1_goesOn 5 (some .boolean) (frr + 1) (lor + 24) 0 0 [.ref x0, .int x1, .int x2] S M n (some (.int r)) S M' n := by
  refine m_ofW (by decide) (Nat.le_of_ble_eq_true rfl) (fun p e s m below meth c X hnm hp ls hl => ?_)
  have hx := X.1.1
  have hb := X.1.2.1
  have hown := X.1.2.2.2.1
  have hts := X.1.2.2.2.2
  have hl : lv_has ls 5 [(0, .ref x0), (1, .int x1), (2, .int x2)] := hl
  unfold fo_X1_goesOn at hF
  refine lv_aload_n hx hb dX1_goesOn_0 rfl (lv_at hl 0 rfl) ?_
  obtain ⟨v1, e2, hF⟩ := ob_s hF
  refine m_getR X hp e2 kX1 (Nat.le_of_ble_eq_true rfl) q377 dX1_goesOn_1 ?_
  refine lv_iload_n hx hb dX1_goesOn_4 rfl (lv_at hl 1 rfl) ?_
  obtain ⟨v3, e4, hF⟩ := ob_s hF
  refine m_aaR 104 X hp e4 rfl (by decide) rfl dX1_goesOn_5 ?_
  refine lv_astore_n (lv' := [(3, .ref v3), (0, .ref x0), (1, .int x1), (2, .int x2)]) hx hb dX1_goesOn_6 rfl hl (by decide) rfl (fun ls hl => ?_)
  refine lv_aload_n hx hb dX1_goesOn_7 rfl (lv_at hl 0 rfl) ?_
  obtain ⟨v5, e6, hF⟩ := ob_s hF
  refine m_getIN X hp e6 kX4 (Nat.le_of_ble_eq_true rfl) q255 dX1_goesOn_8 ?_
  refine lv_aload_n hx hb dX1_goesOn_11 rfl (lv_at hl 0 rfl) ?_
  obtain ⟨v7, e8, hF⟩ := ob_s hF
  refine m_getIN X hp e8 kX4 (Nat.le_of_ble_eq_true rfl) q258 dX1_goesOn_12 ?_
  obtain ⟨v10, e9, hF⟩ := ob_s hF
  refine m_callSN (As := [.int v5, .int v7]) (rest := []) X hp (w_X0_on e9) q1102 q1103 q132 q1104 2 rfl ds_X0_on ⟨by show _ ≤ frr + 1; omega, by show _ ≤ lor + 24; omega⟩ hl.1 rfl (Nat.le_of_ble_eq_true rfl) dX1_goesOn_15 ⟨Nat.le_refl 0, Nat.le_refl 0⟩ (fun H locs hp => ?_)
  refine lv_istore (lv' := [(4, .int v10), (3, .ref v3), (0, .ref x0), (1, .int x1), (2, .int x2)]) hx hb dX1_goesOn_18 hl (by decide) rfl (fun ls hl => ?_)
  refine lv_iload hx hb dX1_goesOn_20 (lv_at hl 0 rfl) ?_
  refine lv_iconst (v := -1) hx hb dX1_goesOn_22 (by decide) ?_
  refine lv_icmp_ne (tgt := 32) hx hb dX1_goesOn_23 (by decide) (fun c11 => ?_) (fun c11 => ?_)
  · have hF := if_n c11 hF
    refine lv_aload_n hx hb dX1_goesOn_32 rfl (lv_at hl 2 rfl) ?_
    refine lv_iload hx hb dX1_goesOn_33 (lv_at hl 0 rfl) ?_
    obtain ⟨v13, e12, hF⟩ := ob_s hF
    refine m_callV (As := [.int v10]) (rest := []) X hp (w_X1_isFree e12) q1185 q1025 q1026 q133 q1027 1 rfl ds_X1_isFree ⟨by show _ ≤ frr + 1; omega, by show _ ≤ lor + 24; omega⟩ 2 (T := TX1) (N := 19) rfl (by decide) (rR_s e2).1 hl.1 rfl (Nat.le_of_ble_eq_true rfl) dX1_goesOn_35 ⟨Nat.le_refl 0, Nat.le_refl 0⟩ (fun H locs hp => ?_)
    refine lv_if_ne (tgt := 53) hx hb dX1_goesOn_38 (by decide) (fun c14 => ?_) (fun c14 => ?_)
    · have hF := if_n c14 hF
      refine lv_aload_n hx hb dX1_goesOn_53 rfl (lv_at hl 1 rfl) ?_
      refine lv_iload hx hb dX1_goesOn_54 (lv_at hl 0 rfl) ?_
      obtain ⟨M15, e16, hF⟩ := ob_s hF
      refine m_putWN X hp e16 kX4 (Nat.le_of_ble_eq_true rfl) q255 rfl rfl rfl dX1_goesOn_56 (fun H locs hp => ?_)
      refine lv_iload_n hx hb dX1_goesOn_59 rfl (lv_at hl 4 rfl) ?_
      refine lv_if_ne (tgt := 86) hx hb dX1_goesOn_60 (by decide) (fun c17 => ?_) (fun c17 => ?_)
      · have hF := if_n c17 hF
        refine lv_iconst (v := 0) hx hb dX1_goesOn_86 (by decide) ?_
        cases hF
        exact m_zret X hp rfl dX1_goesOn_87
      · have hF := if_p c17 hF
        refine lv_aload_n hx hb dX1_goesOn_63 rfl (lv_at hl 2 rfl) ?_
        obtain ⟨v18, e19, hF⟩ := ob_s hF
        refine m_getR X hp e19 kX1 (Nat.le_of_ble_eq_true rfl) q375 dX1_goesOn_64 ?_
        refine lv_iload hx hb dX1_goesOn_67 (lv_at hl 0 rfl) ?_
        obtain ⟨v20, e21, hF⟩ := ob_s hF
        refine m_iaI X hp e21 dX1_goesOn_69 ?_
        refine lv_iconst (v := 2) hx hb dX1_goesOn_70 (by decide) ?_
        refine lv_icmp_ne (tgt := 86) hx hb dX1_goesOn_71 (by decide) (fun c22 => ?_) (fun c22 => ?_)
        · have hF := if_n c22 hF
          refine lv_iconst (v := 0) hx hb dX1_goesOn_86 (by decide) ?_
          cases hF
          exact m_zret X hp rfl dX1_goesOn_87
        · have hF := if_p c22 hF
          refine lv_aload_n hx hb dX1_goesOn_74 rfl (lv_at hl 2 rfl) ?_
          refine lv_aload_n hx hb dX1_goesOn_75 rfl (lv_at hl 2 rfl) ?_
          refine lv_aload_n hx hb dX1_goesOn_76 rfl (lv_at hl 1 rfl) ?_
          obtain ⟨⟨v24, M25⟩, e23, hF⟩ := ob_s hF
          refine m_callV (As := [.ref v3]) (rest := [.ref x0]) X hp (w_X1_slips e23) q1186 q1187 q1188 q133 q1189 1 rfl ds_X1_slips ⟨by show _ ≤ frr + 1; omega, by show _ ≤ lor + 24; omega⟩ 2 (T := TX1) (N := 19) rfl (by decide) (rR_s e19).1 hl.1 rfl (Nat.le_of_ble_eq_true rfl) dX1_goesOn_77 ⟨Nat.le_refl 0, Nat.le_refl 0⟩ (fun H locs hp => ?_)
          obtain ⟨⟨v27, M28⟩, e26, hF⟩ := ob_s hF
          refine m_callV (As := [.int v24]) (rest := []) X hp (w_X1_falls e26) q1175 q1177 qs39 q133 q1178 1 rfl ds_X1_falls ⟨by show _ ≤ frr + 1; omega, by show _ ≤ lor + 24; omega⟩ 2 (T := TX1) (N := 19) rfl (by decide) (rR_s e19).1 hl.1 rfl (Nat.le_of_ble_eq_true rfl) dX1_goesOn_80 ⟨Nat.le_refl 0, Nat.le_refl 0⟩ (fun H locs hp => ?_)
          refine lv_if_ne (tgt := 88) hx hb dX1_goesOn_83 (by decide) (fun c29 => ?_) (fun c29 => ?_)
          · have hF := if_n c29 hF
            refine lv_aload_n hx hb dX1_goesOn_88 rfl (lv_at hl 1 rfl) ?_
            refine lv_dup hx hb dX1_goesOn_89 rfl ?_
            obtain ⟨v30, e31, hF⟩ := ob_s hF
            refine m_getIN X hp e31 kX4 (Nat.le_of_ble_eq_true rfl) q280 dX1_goesOn_90 ?_
            refine lv_iconst (v := 1) hx hb dX1_goesOn_93 (by decide) ?_
            refine lv_iadd hx hb dX1_goesOn_94 ?_
            obtain ⟨M32, e33, hF⟩ := ob_s hF
            refine m_putWN X hp e33 kX4 (Nat.le_of_ble_eq_true rfl) q280 rfl rfl rfl dX1_goesOn_95 (fun H locs hp => ?_)
            refine lv_aload_n hx hb dX1_goesOn_98 rfl (lv_at hl 2 rfl) ?_
            refine lv_iconst (v := 2) hx hb dX1_goesOn_99 (by decide) ?_
            refine lv_iload_n hx hb dX1_goesOn_100 rfl (lv_at hl 3 rfl) ?_
            refine lv_iload hx hb dX1_goesOn_101 (lv_at hl 0 rfl) ?_
            obtain ⟨M36, e34, hF⟩ := ob_s hF
            refine m_callV (As := [.int (2 : Int32), .int x1, .int v10]) (rest := []) X hp (w_X1_notes e34) q1044 q1046 qs32 q133 q1047 3 rfl ds_X1_notes ⟨by show _ ≤ frr + 1; omega, by show _ ≤ lor + 24; omega⟩ 2 (T := TX1) (N := 19) rfl (by decide) (rR_s e19).1 hl.1 rfl (Nat.le_of_ble_eq_true rfl) dX1_goesOn_103 ⟨Nat.le_refl 0, Nat.le_refl 0⟩ (fun H locs hp => ?_)
            refine lv_aload_n hx hb dX1_goesOn_106 rfl (lv_at hl 2 rfl) ?_
            refine lv_iload_n hx hb dX1_goesOn_107 rfl (lv_at hl 3 rfl) ?_
            refine lv_iconst (v := 1) hx hb dX1_goesOn_108 (by decide) ?_
            obtain ⟨⟨v38, M39⟩, e37, hF⟩ := ob_s hF
            refine m_callV (As := [.int x1, .int (1 : Int32)]) (rest := []) X hp (hrec e37) q1098 q1100 qs35 q133 q1101 2 rfl ds_X1_goesOn ⟨by show _ ≤ frr + 1; omega, by show _ ≤ lor + 24; omega⟩ 2 (T := TX1) (N := 19) rfl (by decide) (rR_s e19).1 hl.1 rfl (Nat.le_of_ble_eq_true rfl) dX1_goesOn_109 ⟨Nat.le_refl 0, Nat.le_refl 0⟩ (fun H locs hp => ?_)
            obtain ⟨g40, hF⟩ := gd_s hF
            cases hF
            exact m_zret X hp ((bz_iff _).mpr g40) dX1_goesOn_112
          · have hF := if_p c29 hF
            refine lv_iconst (v := 0) hx hb dX1_goesOn_86 (by decide) ?_
            cases hF
            exact m_zret X hp rfl dX1_goesOn_87
    · have hF := if_p c14 hF
      refine lv_aload_n hx hb dX1_goesOn_41 rfl (lv_at hl 2 rfl) ?_
      refine lv_iconst (v := 5) hx hb dX1_goesOn_42 (by decide) ?_
      refine lv_iload_n hx hb dX1_goesOn_43 rfl (lv_at hl 3 rfl) ?_
      refine lv_aload_n hx hb dX1_goesOn_44 rfl (lv_at hl 1 rfl) ?_
      obtain ⟨v41, e42, hF⟩ := ob_s hF
      refine m_getIN X hp e42 kX4 (Nat.le_of_ble_eq_true rfl) q255 dX1_goesOn_45 ?_
      obtain ⟨M45, e43, hF⟩ := ob_s hF
      refine m_callV (As := [.int (5 : Int32), .int x1, .int v41]) (rest := []) X hp (w_X1_notes e43) q1044 q1046 qs32 q133 q1047 3 rfl ds_X1_notes ⟨by show _ ≤ frr + 1; omega, by show _ ≤ lor + 24; omega⟩ 2 (T := TX1) (N := 19) rfl (by decide) (rR_s e2).1 hl.1 rfl (Nat.le_of_ble_eq_true rfl) dX1_goesOn_48 ⟨Nat.le_refl 0, Nat.le_refl 0⟩ (fun H locs hp => ?_)
      refine lv_iconst (v := 0) hx hb dX1_goesOn_51 (by decide) ?_
      cases hF
      exact m_zret X hp rfl dX1_goesOn_52
  · have hF := if_p c11 hF
    refine lv_aload_n hx hb dX1_goesOn_26 rfl (lv_at hl 2 rfl) ?_
    refine lv_iload_n hx hb dX1_goesOn_27 rfl (lv_at hl 3 rfl) ?_
    obtain ⟨⟨v47, M48⟩, e46, hF⟩ := ob_s hF
    refine m_callV (As := [.int x1]) (rest := []) X hp (w_X1_isOver e46) q1111 q1113 qs36 q133 q1114 1 rfl ds_X1_isOver ⟨by show _ ≤ frr + 1; omega, by show _ ≤ lor + 24; omega⟩ 2 (T := TX1) (N := 19) rfl (by decide) (rR_s e2).1 hl.1 rfl (Nat.le_of_ble_eq_true rfl) dX1_goesOn_28 ⟨Nat.le_refl 0, Nat.le_refl 0⟩ (fun H locs hp => ?_)
    obtain ⟨g49, hF⟩ := gd_s hF
    cases hF
    exact m_zret X hp ((bz_iff _).mpr g49) dX1_goesOn_31
end
def fd_X1_goesOn (S : mSh) : Nat → mMm → Nat → Int32 → Int32 → Option (Int32 × mMm)
  | 0, _, _, _, _ => none
  | d + 1, M, x0, x1, x2 => fo_X1_goesOn S (fd_X1_goesOn S d) M x0 x1 x2
theorem wd_X1_goesOn {l : Launch} {D : va_G} {n0 : Nat} {P : mP} {S : mSh} {n : Nat} : ∀ (d : Nat) {M M' : mMm} {x0 : Nat} {x1 : Int32} {x2 : Int32} {r : Int32}, fd_X1_goesOn S d M x0 x1 x2 = some (r, M') → mCt l D n0 P yX1_goesOn cX1_goesOn 5 (some .boolean) (1 * d + 509) (24 * d + 11701) 0 0 [.ref x0, .int x1, .int x2] S M n (some (.int r)) S M' n
  | 0, _, _, _, _, _, _, h => by
    have h : none = some _ := h
    cases h
  | d + 1, _, _, _, _, _, _, h => by
    rw [fd_X1_goesOn] at h
    rw [show 1 * (d + 1) + 509 = 1 * d + 509 + 1 by omega, show 24 * (d + 1) + 11701 = 24 * d + 11701 + 24 by omega]
    exact wo_X1_goesOn (fun h => wd_X1_goesOn d h) ⟨Nat.le_add_left _ _, Nat.le_add_left _ _⟩ h
def f_X1_goesOn (S : mSh) (M : mMm) (x0 : Nat) (x1 : Int32) (x2 : Int32) : Option (Int32 × mMm) := fd_X1_goesOn S 3 M x0 x1 x2
theorem w_X1_goesOn {l : Launch} {D : va_G} {n0 : Nat} {P : mP} {S : mSh} {n : Nat} {M M' : mMm} {x0 : Nat} {x1 : Int32} {x2 : Int32} {r : Int32} (h : f_X1_goesOn S M x0 x1 x2 = some (r, M')) : mCt l D n0 P yX1_goesOn cX1_goesOn 5 (some .boolean) 512 11773 0 0 [.ref x0, .int x1, .int x2] S M n (some (.int r)) S M' n := wd_X1_goesOn 3 h
section
variable {l : Launch} {D : va_G} {n0 : Nat} {P : mP} {S : mSh} {M : mMm} {n : Nat} {p : Program} {e : Env} {s : State} {m : MethodId} {args : Array Value} {below : List Frame} {meth : Method} {c : Code}
abbrev Rm_X1_walks : Room := { frames := 513, cells := 0, slots := 0, locals := 11797 }
def fb_X1_walks_35 (S : mSh) (M : mMm) (x0 : Nat) (x1 : Int32) (x2 : Nat) : Option (Int32 × mMm) := ob (rI S M x2 3 0) fun v22 => (if v22 = 0 then some ((0 : Int32), M) else gd ((S x0).1 = 2) (ob (f_X1_goesOn S M x0 x1 (0 : Int32)) fun ⟨v27, M28⟩ => (if v27 = 0 then some ((0 : Int32), M28) else some ((1 : Int32), M28))))
theorem b_X1_walks_35 {r : Int32} {M' : mMm} (X : mCx D n0 P p m c cX1_walks 3 s args yX1_walks.cls meth (some .boolean)) : ∀ (M : mMm) (x0 : Nat) (x1 : Int32) (x2 : Nat) (H : Heap) (locs : List Loc) (ls : Array Slot), mHp D n0 S M n s H locs → lv_has ls 3 [(0, .ref x0), (1, .int x1), (2, .ref x2)] → fb_X1_walks_35 S M x0 x1 x2 = some (r, M') → W p l e Rm_X1_walks s m args below meth c H locs 0 0 (MQ below (mQ D n0 (some (.int r)) S M' n) args s 0 0 (mA n0)) (F0 m 35 ls []) := by
  have hx := X.1.1
  have hb := X.1.2.1
  have hown := X.1.2.2.2.1
  have hts := X.1.2.2.2.2
  intro M x0 x1 x2 H locs ls hp hl hF
  unfold fb_X1_walks_35 at hF
  refine lv_aload_n hx hb dX1_walks_35 rfl (lv_at hl 2 rfl) ?_
  obtain ⟨v22, e23, hF⟩ := ob_s hF
  refine m_getIN X hp e23 kX2 (Nat.le_of_ble_eq_true rfl) q185 dX1_walks_36 ?_
  refine lv_if_eq (tgt := 55) hx hb dX1_walks_39 (by decide) (fun c24 => ?_) (fun c24 => ?_)
  · have hF := if_p c24 hF
    refine lv_iconst (v := 0) hx hb dX1_walks_55 (by decide) ?_
    cases hF
    exact m_zret X hp rfl dX1_walks_56
  · have hF := if_n c24 hF
    refine lv_aload_n hx hb dX1_walks_42 rfl (lv_at hl 0 rfl) ?_
    refine lv_iload_n hx hb dX1_walks_43 rfl (lv_at hl 1 rfl) ?_
    refine lv_iconst (v := 0) hx hb dX1_walks_44 (by decide) ?_
    obtain ⟨g25, hF⟩ := gd_s hF
    obtain ⟨⟨v27, M28⟩, e26, hF⟩ := ob_s hF
    refine m_callV (As := [.int x1, .int (0 : Int32)]) (rest := []) X hp (w_X1_goesOn e26) q1098 q1100 qs35 q133 q1101 2 rfl ds_X1_goesOn ⟨Nat.le_of_ble_eq_true rfl, Nat.le_of_ble_eq_true rfl⟩ 2 (T := TX1) (N := 19) rfl (by decide) g25 hl.1 rfl (Nat.le_of_ble_eq_true rfl) dX1_walks_45 ⟨Nat.le_refl 0, Nat.le_refl 0⟩ (fun H locs hp => ?_)
    refine lv_if_eq (tgt := 55) hx hb dX1_walks_48 (by decide) (fun c29 => ?_) (fun c29 => ?_)
    · have hF := if_p c29 hF
      refine lv_iconst (v := 0) hx hb dX1_walks_55 (by decide) ?_
      cases hF
      exact m_zret X hp rfl dX1_walks_56
    · have hF := if_n c29 hF
      refine lv_iconst (v := 1) hx hb dX1_walks_51 (by decide) ?_
      refine lv_goto (tgt := 56) hx hb dX1_walks_52 (by decide) ?_
      cases hF
      exact m_zret X hp rfl dX1_walks_56
def f_X1_walks (S : mSh) (M : mMm) (x0 : Nat) (x1 : Int32) : Option (Int32 × mMm) := gd ((S x0).1 = 2) (ob (f_X1_next S M x0 x1) fun v3 => ob (rR S M x0 2 1) fun v4 => ob (aR S M v4 104 x1) fun v6 => ob (rI S M v3 3 1) fun v8 => gd ((S v6).1 = 5) (ob (f_X4_does S M v6 v8) fun M13 => ob (rI S M13 v3 3 2) fun v14 => (if v14 ≤ 0 then (fb_X1_walks_35 S M13 x0 x1 v3) else ob (rI S M13 v3 3 2) fun v17 => ob (f_X1_turns S M13 x0 x1 v17) fun M21 => (fb_X1_walks_35 S M21 x0 x1 v3))))
theorem w_X1_walks {x0 : Nat} {x1 : Int32} {r : Int32} {M' : mMm} (hF : f_X1_walks S M x0 x1 = some (r, M')) : mCt l D n0 P yX1_walks cX1_walks 3 (some .boolean) 513 11797 0 0 [.ref x0, .int x1] S M n (some (.int r)) S M' n := by
  refine m_ofW (by decide) (Nat.le_of_ble_eq_true rfl) (fun p e s m below meth c X hnm hp ls hl => ?_)
  have hx := X.1.1
  have hb := X.1.2.1
  have hown := X.1.2.2.2.1
  have hts := X.1.2.2.2.2
  have hl : lv_has ls 3 [(0, .ref x0), (1, .int x1)] := hl
  unfold f_X1_walks at hF
  refine lv_aload_n hx hb dX1_walks_0 rfl (lv_at hl 0 rfl) ?_
  refine lv_iload_n hx hb dX1_walks_1 rfl (lv_at hl 1 rfl) ?_
  obtain ⟨g1, hF⟩ := gd_s hF
  obtain ⟨v3, e2, hF⟩ := ob_s hF
  refine m_callV (As := [.int x1]) (rest := []) X hp (w_X1_next e2) q1084 q1085 q1086 q133 q1087 1 rfl ds_X1_next ⟨Nat.le_of_ble_eq_true rfl, Nat.le_of_ble_eq_true rfl⟩ 2 (T := TX1) (N := 19) rfl (by decide) g1 hl.1 rfl (Nat.le_of_ble_eq_true rfl) dX1_walks_2 ⟨Nat.le_refl 0, Nat.le_refl 0⟩ (fun H locs hp => ?_)
  refine lv_astore_n (lv' := [(2, .ref v3), (0, .ref x0), (1, .int x1)]) hx hb dX1_walks_5 rfl hl (by decide) rfl (fun ls hl => ?_)
  refine lv_aload_n hx hb dX1_walks_6 rfl (lv_at hl 1 rfl) ?_
  obtain ⟨v4, e5, hF⟩ := ob_s hF
  refine m_getR X hp e5 kX1 (Nat.le_of_ble_eq_true rfl) q377 dX1_walks_7 ?_
  refine lv_iload_n hx hb dX1_walks_10 rfl (lv_at hl 2 rfl) ?_
  obtain ⟨v6, e7, hF⟩ := ob_s hF
  refine m_aaR 104 X hp e7 rfl (by decide) rfl dX1_walks_11 ?_
  refine lv_aload_n hx hb dX1_walks_12 rfl (lv_at hl 0 rfl) ?_
  obtain ⟨v8, e9, hF⟩ := ob_s hF
  refine m_getIN X hp e9 kX2 (Nat.le_of_ble_eq_true rfl) q188 dX1_walks_13 ?_
  obtain ⟨g10, hF⟩ := gd_s hF
  obtain ⟨M13, e11, hF⟩ := ob_s hF
  refine m_callV (As := [.int v8]) (rest := []) X hp (w_X4_does e11) q1093 q1094 q1095 q139 q1096 1 rfl ds_X4_does ⟨Nat.le_of_ble_eq_true rfl, Nat.le_of_ble_eq_true rfl⟩ 5 (T := TX4) (N := 11) rfl (by decide) g10 hl.1 rfl (Nat.le_of_ble_eq_true rfl) dX1_walks_16 ⟨Nat.le_refl 0, Nat.le_refl 0⟩ (fun H locs hp => ?_)
  refine lv_aload_n hx hb dX1_walks_19 rfl (lv_at hl 0 rfl) ?_
  obtain ⟨v14, e15, hF⟩ := ob_s hF
  refine m_getIN X hp e15 kX2 (Nat.le_of_ble_eq_true rfl) q191 dX1_walks_20 ?_
  refine lv_if_le (tgt := 35) hx hb dX1_walks_23 (by decide) (fun c16 => ?_) (fun c16 => ?_)
  · have hF := if_p c16 hF
    exact b_X1_walks_35 X _ _ _ _ _ _ _ hp (lv_sub hl [1, 2, 0] rfl) hF
  · have hF := if_n c16 hF
    refine lv_aload_n hx hb dX1_walks_26 rfl (lv_at hl 1 rfl) ?_
    refine lv_iload_n hx hb dX1_walks_27 rfl (lv_at hl 2 rfl) ?_
    refine lv_aload_n hx hb dX1_walks_28 rfl (lv_at hl 0 rfl) ?_
    obtain ⟨v17, e18, hF⟩ := ob_s hF
    refine m_getIN X hp e18 kX2 (Nat.le_of_ble_eq_true rfl) q191 dX1_walks_29 ?_
    obtain ⟨M21, e19, hF⟩ := ob_s hF
    refine m_callV (As := [.int x1, .int v17]) (rest := []) X hp (w_X1_turns e19) q1097 q1057 q1058 q133 q1059 2 rfl ds_X1_turns ⟨Nat.le_of_ble_eq_true rfl, Nat.le_of_ble_eq_true rfl⟩ 2 (T := TX1) (N := 19) rfl (by decide) (rR_s e5).1 hl.1 rfl (Nat.le_of_ble_eq_true rfl) dX1_walks_32 ⟨Nat.le_refl 0, Nat.le_refl 0⟩ (fun H locs hp => ?_)
    exact b_X1_walks_35 X _ _ _ _ _ _ _ hp (lv_sub hl [1, 2, 0] rfl) hF
end
section
variable {l : Launch} {D : va_G} {n0 : Nat} {P : mP} {S : mSh} {M : mMm} {n : Nat} {p : Program} {e : Env} {s : State} {m : MethodId} {args : Array Value} {below : List Frame} {meth : Method} {c : Code}
abbrev Rm_X1_passes : Room := { frames := 514, cells := 0, slots := 0, locals := 11819 }
def fb_X1_passes_38 (S : mSh) (k4 : mMm → Nat → Int32 → Int32 → Option (Int32 × mMm)) (M : mMm) (x0 : Nat) (x2 : Int32) (y0 : Int32) (y1 : Int32) : Option (Int32 × mMm) := nm ((y1 + y0)) fun v24 => nm (x2 + (1 : Int32)) fun v26 => (k4 M x0 v24 v26)
theorem b_X1_passes_38 {r : Int32} {M' : mMm} (X : mCx D n0 P p m c cX1_passes 3 s args yX1_passes.cls meth (some .int)) (k4 : mMm → Nat → Int32 → Int32 → Option (Int32 × mMm)) (hk4 : ∀ (M : mMm) (x0 : Nat) (x1 : Int32) (x2 : Int32) (H : Heap) (locs : List Loc) (ls : Array Slot), mHp D n0 S M n s H locs → lv_has ls 3 [(0, .ref x0), (1, .int x1), (2, .int x2)] → k4 M x0 x1 x2 = some (r, M') → W p l e Rm_X1_passes s m args below meth c H locs 0 0 (MQ below (mQ D n0 (some (.int r)) S M' n) args s 0 0 (mA n0)) (F0 m 4 ls [])) : ∀ (M : mMm) (x0 : Nat) (x2 : Int32) (y0 : Int32) (y1 : Int32) (H : Heap) (locs : List Loc) (ls : Array Slot), mHp D n0 S M n s H locs → lv_has ls 3 [(0, .ref x0), (2, .int x2)] → fb_X1_passes_38 S k4 M x0 x2 y0 y1 = some (r, M') → W p l e Rm_X1_passes s m args below meth c H locs 0 0 (MQ below (mQ D n0 (some (.int r)) S M' n) args s 0 0 (mA n0)) (F0 m 38 ls [.int y0, .int y1]) := by
  have hx := X.1.1
  have hb := X.1.2.1
  have hown := X.1.2.2.2.1
  have hts := X.1.2.2.2.2
  intro M x0 x2 y0 y1 H locs ls hp hl hF
  unfold fb_X1_passes_38 at hF
  refine lv_iadd hx hb dX1_passes_38 ?_
  refine lv_topi (fun v24 ev25 => ?_)
  have hF := nm_s hF ev25
  refine lv_istore_n (lv' := [(1, .int v24), (0, .ref x0), (2, .int x2)]) hx hb dX1_passes_39 rfl hl (by decide) rfl (fun ls hl => ?_)
  obtain ⟨v26, ev27⟩ : ∃ y : Int32, y = x2 + (1 : Int32) := ⟨_, rfl⟩
  have hF := nm_s hF ev27
  refine lv_iinc (v := v26) (lv' := [(2, .int v26), (1, .int v24), (0, .ref x0)]) hx hb dX1_passes_40 hl (k := 2) rfl (by rw [ev27]; rfl) (by decide) rfl (fun ls hl => ?_)
  refine lv_goto (tgt := 4) hx hb dX1_passes_43 (by decide) ?_
  exact hk4 _ _ _ _ _ _ _ hp (lv_sub hl [2, 1, 0] rfl) hF
def fb_X1_passes_4 (S : mSh) : Nat → mMm → Nat → Int32 → Int32 → Option (Int32 × mMm)
  | 0, _, _, _, _ => none
  | t + 1, M, x0, x1, x2 => ob (rI S M x0 2 10) fun v5 => (if v5 ≤ x2 then ob (rI S M x0 2 11) fun v8 => ob (wF S M x0 2 11 (.int (v8 + (1 : Int32)))) fun M10 => some (x1, M10) else ob (rR S M x0 2 1) fun v12 => ob (aR S M v12 104 x2) fun v14 => gd ((S v14).1 = 5) (ob (f_X4_isIn S M v14) fun v18 => (if v18 = 0 then (fb_X1_passes_38 S (fb_X1_passes_4 S t) M x0 x2 (0 : Int32) x1) else ob (f_X1_walks S M x0 x2) fun ⟨v21, M22⟩ => (if v21 = 0 then (fb_X1_passes_38 S (fb_X1_passes_4 S t) M22 x0 x2 (0 : Int32) x1) else (fb_X1_passes_38 S (fb_X1_passes_4 S t) M22 x0 x2 (1 : Int32) x1)))))
theorem b_X1_passes_4 {r : Int32} {M' : mMm} (X : mCx D n0 P p m c cX1_passes 3 s args yX1_passes.cls meth (some .int)) : ∀ t : Nat, ∀ (M : mMm) (x0 : Nat) (x1 : Int32) (x2 : Int32) (H : Heap) (locs : List Loc) (ls : Array Slot), mHp D n0 S M n s H locs → lv_has ls 3 [(0, .ref x0), (1, .int x1), (2, .int x2)] → fb_X1_passes_4 S t M x0 x1 x2 = some (r, M') → W p l e Rm_X1_passes s m args below meth c H locs 0 0 (MQ below (mQ D n0 (some (.int r)) S M' n) args s 0 0 (mA n0)) (F0 m 4 ls []) := by
  have hx := X.1.1
  have hb := X.1.2.1
  have hown := X.1.2.2.2.1
  have hts := X.1.2.2.2.2
  intro t
  induction t with
  | zero =>
    intro M x0 x1 x2 H locs ls hp hl hF
    have hF : none = some (r, M') := hF
    cases hF
  | succ t ih =>
    intro M x0 x1 x2 H locs ls hp hl hF
    rw [fb_X1_passes_4] at hF
    refine lv_iload_n hx hb dX1_passes_4 rfl (lv_at hl 2 rfl) ?_
    refine lv_aload_n hx hb dX1_passes_5 rfl (lv_at hl 0 rfl) ?_
    obtain ⟨v5, e6, hF⟩ := ob_s hF
    refine m_getI X hp e6 kX1 (Nat.le_of_ble_eq_true rfl) q395 dX1_passes_6 ?_
    refine lv_icmp_ge (tgt := 46) hx hb dX1_passes_9 (by decide) (fun c7 => ?_) (fun c7 => ?_)
    · have hF := if_p c7 hF
      refine lv_aload_n hx hb dX1_passes_46 rfl (lv_at hl 0 rfl) ?_
      refine lv_dup hx hb dX1_passes_47 rfl ?_
      obtain ⟨v8, e9, hF⟩ := ob_s hF
      refine m_getI X hp e9 kX1 (Nat.le_of_ble_eq_true rfl) q398 dX1_passes_48 ?_
      refine lv_iconst (v := 1) hx hb dX1_passes_51 (by decide) ?_
      refine lv_iadd hx hb dX1_passes_52 ?_
      obtain ⟨M10, e11, hF⟩ := ob_s hF
      refine m_putW X hp e11 kX1 (Nat.le_of_ble_eq_true rfl) q398 rfl rfl rfl dX1_passes_53 (fun H locs hp => ?_)
      refine lv_iload_n hx hb dX1_passes_56 rfl (lv_at hl 1 rfl) ?_
      cases hF
      exact m_iret X hp dX1_passes_57
    · have hF := if_n c7 hF
      refine lv_iload_n hx hb dX1_passes_12 rfl (lv_at hl 1 rfl) ?_
      refine lv_aload_n hx hb dX1_passes_13 rfl (lv_at hl 0 rfl) ?_
      obtain ⟨v12, e13, hF⟩ := ob_s hF
      refine m_getR X hp e13 kX1 (Nat.le_of_ble_eq_true rfl) q377 dX1_passes_14 ?_
      refine lv_iload_n hx hb dX1_passes_17 rfl (lv_at hl 2 rfl) ?_
      obtain ⟨v14, e15, hF⟩ := ob_s hF
      refine m_aaR 104 X hp e15 rfl (by decide) rfl dX1_passes_18 ?_
      obtain ⟨g16, hF⟩ := gd_s hF
      obtain ⟨v18, e17, hF⟩ := ob_s hF
      refine m_callV (As := []) (rest := [.int x1]) X hp (w_X4_isIn e17) q931 q932 q933 q139 q934 0 rfl ds_X4_isIn ⟨Nat.le_of_ble_eq_true rfl, Nat.le_of_ble_eq_true rfl⟩ 5 (T := TX4) (N := 11) rfl (by decide) g16 hl.1 rfl (Nat.le_of_ble_eq_true rfl) dX1_passes_19 ⟨Nat.le_refl 0, Nat.le_refl 0⟩ (fun H locs hp => ?_)
      refine lv_if_eq (tgt := 37) hx hb dX1_passes_22 (by decide) (fun c19 => ?_) (fun c19 => ?_)
      · have hF := if_p c19 hF
        refine lv_iconst (v := 0) hx hb dX1_passes_37 (by decide) ?_
        exact b_X1_passes_38 X _ ih _ _ _ _ _ _ _ _ hp (lv_sub hl [0, 2] rfl) hF
      · have hF := if_n c19 hF
        refine lv_aload_n hx hb dX1_passes_25 rfl (lv_at hl 0 rfl) ?_
        refine lv_iload_n hx hb dX1_passes_26 rfl (lv_at hl 2 rfl) ?_
        obtain ⟨⟨v21, M22⟩, e20, hF⟩ := ob_s hF
        refine m_callV (As := [.int x2]) (rest := [.int x1]) X hp (w_X1_walks e20) q1080 q1082 qs34 q133 q1083 1 rfl ds_X1_walks ⟨Nat.le_of_ble_eq_true rfl, Nat.le_of_ble_eq_true rfl⟩ 2 (T := TX1) (N := 19) rfl (by decide) (rR_s e13).1 hl.1 rfl (Nat.le_of_ble_eq_true rfl) dX1_passes_27 ⟨Nat.le_refl 0, Nat.le_refl 0⟩ (fun H locs hp => ?_)
        refine lv_if_eq (tgt := 37) hx hb dX1_passes_30 (by decide) (fun c23 => ?_) (fun c23 => ?_)
        · have hF := if_p c23 hF
          refine lv_iconst (v := 0) hx hb dX1_passes_37 (by decide) ?_
          exact b_X1_passes_38 X _ ih _ _ _ _ _ _ _ _ hp (lv_sub hl [0, 2] rfl) hF
        · have hF := if_n c23 hF
          refine lv_iconst (v := 1) hx hb dX1_passes_33 (by decide) ?_
          refine lv_goto (tgt := 38) hx hb dX1_passes_34 (by decide) ?_
          exact b_X1_passes_38 X _ ih _ _ _ _ _ _ _ _ hp (lv_sub hl [0, 2] rfl) hF
def f_X1_passes (S : mSh) (M : mMm) (x0 : Nat) : Option (Int32 × mMm) := nm ((0 : Int32)) fun v1 => nm ((0 : Int32)) fun v3 => (fb_X1_passes_4 S FU M x0 v1 v3)
theorem w_X1_passes {x0 : Nat} {r : Int32} {M' : mMm} (hF : f_X1_passes S M x0 = some (r, M')) : mCt l D n0 P yX1_passes cX1_passes 3 (some .int) 514 11819 0 0 [.ref x0] S M n (some (.int r)) S M' n := by
  refine m_ofW (by decide) (Nat.le_of_ble_eq_true rfl) (fun p e s m below meth c X hnm hp ls hl => ?_)
  have hx := X.1.1
  have hb := X.1.2.1
  have hown := X.1.2.2.2.1
  have hts := X.1.2.2.2.2
  have hl : lv_has ls 3 [(0, .ref x0)] := hl
  unfold f_X1_passes at hF
  refine lv_iconst (v := 0) hx hb dX1_passes_0 (by decide) ?_
  refine lv_topi (fun v1 ev2 => ?_)
  have hF := nm_s hF ev2
  refine lv_istore_n (lv' := [(1, .int v1), (0, .ref x0)]) hx hb dX1_passes_1 rfl hl (by decide) rfl (fun ls hl => ?_)
  refine lv_iconst (v := 0) hx hb dX1_passes_2 (by decide) ?_
  refine lv_topi (fun v3 ev4 => ?_)
  have hF := nm_s hF ev4
  refine lv_istore_n (lv' := [(2, .int v3), (1, .int v1), (0, .ref x0)]) hx hb dX1_passes_3 rfl hl (by decide) rfl (fun ls hl => ?_)
  exact b_X1_passes_4 X _ _ _ _ _ _ _ _ hp (lv_sub hl [2, 1, 0] rfl) hF
end
section
variable {l : Launch} {D : va_G} {n0 : Nat} {P : mP} {S : mSh} {M : mMm} {n : Nat} {p : Program} {e : Env} {s : State} {m : MethodId} {args : Array Value} {below : List Frame} {meth : Method} {c : Code}
abbrev Rm_X0_goes : Room := { frames := 515, cells := 0, slots := 0, locals := 11841 }
def fb_X0_goes_62 (S : mSh) (M : mMm) (x0 : Nat) (x2 : Int32) : Option (Int32 × mMm) := (if x2 = 0 then ob (rR S M x0 1 6) fun v63 => gd ((S v63).1 = 2) (ob (f_X1_inside S M v63) fun v67 => ob (f_J8_bitCount v67) fun v69 => some (v69, M)) else ob (rR S M x0 1 6) fun v59 => ob (rI S M v59 2 12) fun v61 => some (v61, M))
theorem b_X0_goes_62 {r : Int32} {M' : mMm} (X : mCx D n0 P p m c cX0_goes 5 s args yX0_goes.cls meth (some .int)) : ∀ (M : mMm) (x0 : Nat) (x2 : Int32) (H : Heap) (locs : List Loc) (ls : Array Slot), mHp D n0 S M n s H locs → lv_has ls 5 [(0, .ref x0), (2, .int x2)] → fb_X0_goes_62 S M x0 x2 = some (r, M') → W p l e Rm_X0_goes s m args below meth c H locs 0 0 (MQ below (mQ D n0 (some (.int r)) S M' n) args s 0 0 (mA n0)) (F0 m 62 ls []) := by
  have hx := X.1.1
  have hb := X.1.2.1
  have hown := X.1.2.2.2.1
  have hts := X.1.2.2.2.2
  intro M x0 x2 H locs ls hp hl hF
  unfold fb_X0_goes_62 at hF
  refine lv_iload_n hx hb dX0_goes_62 rfl (lv_at hl 1 rfl) ?_
  refine lv_if_ne (tgt := 79) hx hb dX0_goes_63 (by decide) (fun c58 => ?_) (fun c58 => ?_)
  · have hF := if_n c58 hF
    refine lv_aload_n hx hb dX0_goes_79 rfl (lv_at hl 0 rfl) ?_
    obtain ⟨v59, e60, hF⟩ := ob_s hF
    refine m_getR X hp e60 kX0 (Nat.le_of_ble_eq_true rfl) q466 dX0_goes_80 ?_
    obtain ⟨v61, e62, hF⟩ := ob_s hF
    refine m_getIN X hp e62 kX1 (Nat.le_of_ble_eq_true rfl) q401 dX0_goes_83 ?_
    cases hF
    exact m_iret X hp dX0_goes_86
  · have hF := if_p c58 hF
    refine lv_aload_n hx hb dX0_goes_66 rfl (lv_at hl 0 rfl) ?_
    obtain ⟨v63, e64, hF⟩ := ob_s hF
    refine m_getR X hp e64 kX0 (Nat.le_of_ble_eq_true rfl) q466 dX0_goes_67 ?_
    obtain ⟨g65, hF⟩ := gd_s hF
    obtain ⟨v67, e66, hF⟩ := ob_s hF
    refine m_callV (As := []) (rest := []) X hp (w_X1_inside e66) q1214 q1147 q1148 q133 q1149 0 rfl ds_X1_inside ⟨Nat.le_of_ble_eq_true rfl, Nat.le_of_ble_eq_true rfl⟩ 2 (T := TX1) (N := 19) rfl (by decide) g65 hl.1 rfl (Nat.le_of_ble_eq_true rfl) dX0_goes_70 ⟨Nat.le_refl 0, Nat.le_refl 0⟩ (fun H locs hp => ?_)
    obtain ⟨v69, e68, hF⟩ := ob_s hF
    refine m_callS (As := [.int v67]) (rest := []) X hp (w_J8_bitCount e68) q1215 q1151 q147 q1152 1 rfl ds_J8_bitCount ⟨Nat.le_of_ble_eq_true rfl, Nat.le_of_ble_eq_true rfl⟩ hl.1 rfl (Nat.le_of_ble_eq_true rfl) dX0_goes_73 ⟨Nat.le_refl 0, Nat.le_refl 0⟩ (fun H locs hp => ?_)
    refine lv_goto (tgt := 86) hx hb dX0_goes_76 (by decide) ?_
    cases hF
    exact m_iret X hp dX0_goes_86
def fb_X0_goes_139 (S : mSh) (k92 : mMm → Nat → Int32 → Int32 → Int32 → Option (Int32 × mMm)) (M : mMm) (x0 : Nat) (x2 : Int32) (x4 : Int32) (y0 : Int32) (y1 : Int32) : Option (Int32 × mMm) := nm ((y1 + y0)) fun v54 => nm (x4 + (1 : Int32)) fun v56 => (k92 M x0 x2 v54 v56)
theorem b_X0_goes_139 {r : Int32} {M' : mMm} (X : mCx D n0 P p m c cX0_goes 5 s args yX0_goes.cls meth (some .int)) (k92 : mMm → Nat → Int32 → Int32 → Int32 → Option (Int32 × mMm)) (hk92 : ∀ (M : mMm) (x0 : Nat) (x2 : Int32) (x3 : Int32) (x4 : Int32) (H : Heap) (locs : List Loc) (ls : Array Slot), mHp D n0 S M n s H locs → lv_has ls 5 [(0, .ref x0), (2, .int x2), (3, .int x3), (4, .int x4)] → k92 M x0 x2 x3 x4 = some (r, M') → W p l e Rm_X0_goes s m args below meth c H locs 0 0 (MQ below (mQ D n0 (some (.int r)) S M' n) args s 0 0 (mA n0)) (F0 m 92 ls [])) : ∀ (M : mMm) (x0 : Nat) (x2 : Int32) (x4 : Int32) (y0 : Int32) (y1 : Int32) (H : Heap) (locs : List Loc) (ls : Array Slot), mHp D n0 S M n s H locs → lv_has ls 5 [(0, .ref x0), (2, .int x2), (4, .int x4)] → fb_X0_goes_139 S k92 M x0 x2 x4 y0 y1 = some (r, M') → W p l e Rm_X0_goes s m args below meth c H locs 0 0 (MQ below (mQ D n0 (some (.int r)) S M' n) args s 0 0 (mA n0)) (F0 m 139 ls [.int y0, .int y1]) := by
  have hx := X.1.1
  have hb := X.1.2.1
  have hown := X.1.2.2.2.1
  have hts := X.1.2.2.2.2
  intro M x0 x2 x4 y0 y1 H locs ls hp hl hF
  unfold fb_X0_goes_139 at hF
  refine lv_iadd hx hb dX0_goes_139 ?_
  refine lv_topi (fun v54 ev55 => ?_)
  have hF := nm_s hF ev55
  refine lv_istore_n (lv' := [(3, .int v54), (0, .ref x0), (2, .int x2), (4, .int x4)]) hx hb dX0_goes_140 rfl hl (by decide) rfl (fun ls hl => ?_)
  obtain ⟨v56, ev57⟩ : ∃ y : Int32, y = x4 + (1 : Int32) := ⟨_, rfl⟩
  have hF := nm_s hF ev57
  refine lv_iinc (v := v56) (lv' := [(4, .int v56), (3, .int v54), (0, .ref x0), (2, .int x2)]) hx hb dX0_goes_141 hl (k := 3) rfl (by rw [ev57]; rfl) (by decide) rfl (fun ls hl => ?_)
  refine lv_goto (tgt := 92) hx hb dX0_goes_144 (by decide) ?_
  exact hk92 _ _ _ _ _ _ _ _ hp (lv_sub hl [2, 3, 1, 0] rfl) hF
def fb_X0_goes_92 (S : mSh) : Nat → mMm → Nat → Int32 → Int32 → Int32 → Option (Int32 × mMm)
  | 0, _, _, _, _, _ => none
  | t + 1, M, x0, x2, x3, x4 => ob (rR S M x0 1 6) fun v32 => ob (rI S M v32 2 10) fun v34 => (if v34 ≤ x4 then some (x3, M) else (if x2 = (1 : Int32) then ob (rR S M x0 1 6) fun v46 => ob (rR S M v46 2 1) fun v48 => ob (aR S M v48 104 x4) fun v50 => ob (rI S M v50 5 8) fun v52 => (fb_X0_goes_139 S (fb_X0_goes_92 S t) M x0 x2 x4 v52 x3) else ob (rR S M x0 1 6) fun v38 => ob (rR S M v38 2 1) fun v40 => ob (aR S M v40 104 x4) fun v42 => ob (rI S M v42 5 9) fun v44 => (fb_X0_goes_139 S (fb_X0_goes_92 S t) M x0 x2 x4 v44 x3)))
theorem b_X0_goes_92 {r : Int32} {M' : mMm} (X : mCx D n0 P p m c cX0_goes 5 s args yX0_goes.cls meth (some .int)) : ∀ t : Nat, ∀ (M : mMm) (x0 : Nat) (x2 : Int32) (x3 : Int32) (x4 : Int32) (H : Heap) (locs : List Loc) (ls : Array Slot), mHp D n0 S M n s H locs → lv_has ls 5 [(0, .ref x0), (2, .int x2), (3, .int x3), (4, .int x4)] → fb_X0_goes_92 S t M x0 x2 x3 x4 = some (r, M') → W p l e Rm_X0_goes s m args below meth c H locs 0 0 (MQ below (mQ D n0 (some (.int r)) S M' n) args s 0 0 (mA n0)) (F0 m 92 ls []) := by
  have hx := X.1.1
  have hb := X.1.2.1
  have hown := X.1.2.2.2.1
  have hts := X.1.2.2.2.2
  intro t
  induction t with
  | zero =>
    intro M x0 x2 x3 x4 H locs ls hp hl hF
    have hF : none = some (r, M') := hF
    cases hF
  | succ t ih =>
    intro M x0 x2 x3 x4 H locs ls hp hl hF
    rw [fb_X0_goes_92] at hF
    refine lv_iload hx hb dX0_goes_92 (lv_at hl 3 rfl) ?_
    refine lv_aload_n hx hb dX0_goes_94 rfl (lv_at hl 0 rfl) ?_
    obtain ⟨v32, e33, hF⟩ := ob_s hF
    refine m_getR X hp e33 kX0 (Nat.le_of_ble_eq_true rfl) q466 dX0_goes_95 ?_
    obtain ⟨v34, e35, hF⟩ := ob_s hF
    refine m_getIN X hp e35 kX1 (Nat.le_of_ble_eq_true rfl) q396 dX0_goes_98 ?_
    refine lv_icmp_ge (tgt := 147) hx hb dX0_goes_101 (by decide) (fun c36 => ?_) (fun c36 => ?_)
    · have hF := if_p c36 hF
      refine lv_iload_n hx hb dX0_goes_147 rfl (lv_at hl 2 rfl) ?_
      cases hF
      exact m_iret X hp dX0_goes_148
    · have hF := if_n c36 hF
      refine lv_iload_n hx hb dX0_goes_104 rfl (lv_at hl 2 rfl) ?_
      refine lv_iload_n hx hb dX0_goes_105 rfl (lv_at hl 1 rfl) ?_
      refine lv_iconst (v := 1) hx hb dX0_goes_106 (by decide) ?_
      refine lv_icmp_ne (tgt := 126) hx hb dX0_goes_107 (by decide) (fun c37 => ?_) (fun c37 => ?_)
      · have hF := if_n c37 hF
        refine lv_aload_n hx hb dX0_goes_126 rfl (lv_at hl 0 rfl) ?_
        obtain ⟨v38, e39, hF⟩ := ob_s hF
        refine m_getR X hp e39 kX0 (Nat.le_of_ble_eq_true rfl) q466 dX0_goes_127 ?_
        obtain ⟨v40, e41, hF⟩ := ob_s hF
        refine m_getRN X hp e41 kX1 (Nat.le_of_ble_eq_true rfl) q378 dX0_goes_130 ?_
        refine lv_iload hx hb dX0_goes_133 (lv_at hl 3 rfl) ?_
        obtain ⟨v42, e43, hF⟩ := ob_s hF
        refine m_aaR 104 X hp e43 rfl (by decide) rfl dX0_goes_135 ?_
        obtain ⟨v44, e45, hF⟩ := ob_s hF
        refine m_getIN X hp e45 kX4 (Nat.le_of_ble_eq_true rfl) q278 dX0_goes_136 ?_
        exact b_X0_goes_139 X _ ih _ _ _ _ _ _ _ _ _ hp (lv_sub hl [0, 1, 3] rfl) hF
      · have hF := if_p c37 hF
        refine lv_aload_n hx hb dX0_goes_110 rfl (lv_at hl 0 rfl) ?_
        obtain ⟨v46, e47, hF⟩ := ob_s hF
        refine m_getR X hp e47 kX0 (Nat.le_of_ble_eq_true rfl) q466 dX0_goes_111 ?_
        obtain ⟨v48, e49, hF⟩ := ob_s hF
        refine m_getRN X hp e49 kX1 (Nat.le_of_ble_eq_true rfl) q378 dX0_goes_114 ?_
        refine lv_iload hx hb dX0_goes_117 (lv_at hl 3 rfl) ?_
        obtain ⟨v50, e51, hF⟩ := ob_s hF
        refine m_aaR 104 X hp e51 rfl (by decide) rfl dX0_goes_119 ?_
        obtain ⟨v52, e53, hF⟩ := ob_s hF
        refine m_getIN X hp e53 kX4 (Nat.le_of_ble_eq_true rfl) q275 dX0_goes_120 ?_
        refine lv_goto (tgt := 139) hx hb dX0_goes_123 (by decide) ?_
        exact b_X0_goes_139 X _ ih _ _ _ _ _ _ _ _ _ hp (lv_sub hl [0, 1, 3] rfl) hF
def fb_X0_goes_34 (S : mSh) : Nat → mMm → Nat → Int32 → Int32 → Int32 → Option (Int32 × mMm)
  | 0, _, _, _, _, _ => none
  | t + 1, M, x0, x1, x2, x3 => (if x1 ≤ x3 then (if x2 = 0 then (fb_X0_goes_62 S M x0 x2) else (if x2 = (3 : Int32) then (fb_X0_goes_62 S M x0 x2) else nm ((0 : Int32)) fun v20 => nm ((0 : Int32)) fun v22 => (fb_X0_goes_92 S FU M x0 x2 v20 v22))) else ob (rR S M x0 1 6) fun v24 => gd ((S v24).1 = 2) (ob (f_X1_passes S M v24) fun ⟨v28, M29⟩ => nm (x3 + (1 : Int32)) fun v30 => (fb_X0_goes_34 S t M29 x0 x1 x2 v30)))
theorem b_X0_goes_34 {r : Int32} {M' : mMm} (X : mCx D n0 P p m c cX0_goes 5 s args yX0_goes.cls meth (some .int)) : ∀ t : Nat, ∀ (M : mMm) (x0 : Nat) (x1 : Int32) (x2 : Int32) (x3 : Int32) (H : Heap) (locs : List Loc) (ls : Array Slot), mHp D n0 S M n s H locs → lv_has ls 5 [(0, .ref x0), (1, .int x1), (2, .int x2), (3, .int x3)] → fb_X0_goes_34 S t M x0 x1 x2 x3 = some (r, M') → W p l e Rm_X0_goes s m args below meth c H locs 0 0 (MQ below (mQ D n0 (some (.int r)) S M' n) args s 0 0 (mA n0)) (F0 m 34 ls []) := by
  have hx := X.1.1
  have hb := X.1.2.1
  have hown := X.1.2.2.2.1
  have hts := X.1.2.2.2.2
  intro t
  induction t with
  | zero =>
    intro M x0 x1 x2 x3 H locs ls hp hl hF
    have hF : none = some (r, M') := hF
    cases hF
  | succ t ih =>
    intro M x0 x1 x2 x3 H locs ls hp hl hF
    rw [fb_X0_goes_34] at hF
    refine lv_iload_n hx hb dX0_goes_34 rfl (lv_at hl 3 rfl) ?_
    refine lv_iload_n hx hb dX0_goes_35 rfl (lv_at hl 1 rfl) ?_
    refine lv_icmp_ge (tgt := 53) hx hb dX0_goes_36 (by decide) (fun c17 => ?_) (fun c17 => ?_)
    · have hF := if_p c17 hF
      refine lv_iload_n hx hb dX0_goes_53 rfl (lv_at hl 2 rfl) ?_
      refine lv_if_eq (tgt := 62) hx hb dX0_goes_54 (by decide) (fun c18 => ?_) (fun c18 => ?_)
      · have hF := if_p c18 hF
        exact b_X0_goes_62 X _ _ _ _ _ _ hp (lv_sub hl [0, 2] rfl) hF
      · have hF := if_n c18 hF
        refine lv_iload_n hx hb dX0_goes_57 rfl (lv_at hl 2 rfl) ?_
        refine lv_iconst (v := 3) hx hb dX0_goes_58 (by decide) ?_
        refine lv_icmp_ne (tgt := 87) hx hb dX0_goes_59 (by decide) (fun c19 => ?_) (fun c19 => ?_)
        · have hF := if_n c19 hF
          refine lv_iconst (v := 0) hx hb dX0_goes_87 (by decide) ?_
          refine lv_topi (fun v20 ev21 => ?_)
          have hF := nm_s hF ev21
          refine lv_istore_n (lv' := [(3, .int v20), (0, .ref x0), (1, .int x1), (2, .int x2)]) hx hb dX0_goes_88 rfl hl (by decide) rfl (fun ls hl => ?_)
          refine lv_iconst (v := 0) hx hb dX0_goes_89 (by decide) ?_
          refine lv_topi (fun v22 ev23 => ?_)
          have hF := nm_s hF ev23
          refine lv_istore (lv' := [(4, .int v22), (3, .int v20), (0, .ref x0), (1, .int x1), (2, .int x2)]) hx hb dX0_goes_90 hl (by decide) rfl (fun ls hl => ?_)
          exact b_X0_goes_92 X _ _ _ _ _ _ _ _ _ hp (lv_sub hl [2, 4, 1, 0] rfl) hF
        · have hF := if_p c19 hF
          exact b_X0_goes_62 X _ _ _ _ _ _ hp (lv_sub hl [0, 2] rfl) hF
    · have hF := if_n c17 hF
      refine lv_aload_n hx hb dX0_goes_39 rfl (lv_at hl 0 rfl) ?_
      obtain ⟨v24, e25, hF⟩ := ob_s hF
      refine m_getR X hp e25 kX0 (Nat.le_of_ble_eq_true rfl) q466 dX0_goes_40 ?_
      obtain ⟨g26, hF⟩ := gd_s hF
      obtain ⟨⟨v28, M29⟩, e27, hF⟩ := ob_s hF
      refine m_callV (As := []) (rest := []) X hp (w_X1_passes e27) q1076 q1077 q1078 q133 q1079 0 rfl ds_X1_passes ⟨Nat.le_of_ble_eq_true rfl, Nat.le_of_ble_eq_true rfl⟩ 2 (T := TX1) (N := 19) rfl (by decide) g26 hl.1 rfl (Nat.le_of_ble_eq_true rfl) dX0_goes_43 ⟨Nat.le_refl 0, Nat.le_refl 0⟩ (fun H locs hp => ?_)
      refine lv_pop hx hb dX0_goes_46 rfl ?_
      obtain ⟨v30, ev31⟩ : ∃ y : Int32, y = x3 + (1 : Int32) := ⟨_, rfl⟩
      have hF := nm_s hF ev31
      refine lv_iinc (v := v30) (lv' := [(3, .int v30), (0, .ref x0), (1, .int x1), (2, .int x2)]) hx hb dX0_goes_47 hl (k := 3) rfl (by rw [ev31]; rfl) (by decide) rfl (fun ls hl => ?_)
      refine lv_goto (tgt := 34) hx hb dX0_goes_50 (by decide) ?_
      exact ih _ _ _ _ _ _ _ _ hp (lv_sub hl [1, 2, 3, 0] rfl) hF
def f_X0_goes (S : mSh) (M : mMm) (x0 : Nat) (x1 : Int32) (x2 : Int32) : Option (Int32 × mMm) := ob (f_X0_isIn x1 (1 : Int32) (60 : Int32)) fun v2 => (if v2 = 0 then some ((-1 : Int32), M) else ob (f_X0_isIn x2 (0 : Int32) (3 : Int32)) fun v5 => (if v5 = 0 then some ((-1 : Int32), M) else ob (rR S M x0 1 6) fun v7 => ob (rR S M x0 1 4) fun v9 => gd ((S v7).1 = 2) (ob (f_X1_thinks S M v7 v9) fun M14 => nm ((0 : Int32)) fun v15 => (fb_X0_goes_34 S FU M14 x0 x1 x2 v15))))
theorem w_X0_goes {x0 : Nat} {x1 : Int32} {x2 : Int32} {r : Int32} {M' : mMm} (hF : f_X0_goes S M x0 x1 x2 = some (r, M')) : mCt l D n0 P yX0_goes cX0_goes 5 (some .int) 515 11841 0 0 [.ref x0, .int x1, .int x2] S M n (some (.int r)) S M' n := by
  refine m_ofW (by decide) (Nat.le_of_ble_eq_true rfl) (fun p e s m below meth c X hnm hp ls hl => ?_)
  have hx := X.1.1
  have hb := X.1.2.1
  have hown := X.1.2.2.2.1
  have hts := X.1.2.2.2.2
  have hl : lv_has ls 5 [(0, .ref x0), (1, .int x1), (2, .int x2)] := hl
  unfold f_X0_goes at hF
  refine lv_iload_n hx hb dX0_goes_0 rfl (lv_at hl 1 rfl) ?_
  refine lv_iconst (v := 1) hx hb dX0_goes_1 (by decide) ?_
  refine lv_bipush (v := 60) hx hb dX0_goes_2 (by decide) ?_
  obtain ⟨v2, e1, hF⟩ := ob_s hF
  refine m_callS (As := [.int x1, .int (1 : Int32), .int (60 : Int32)]) (rest := []) X hp (w_X0_isIn e1) q565 q566 q132 q567 3 rfl ds_X0_isIn ⟨Nat.le_of_ble_eq_true rfl, Nat.le_of_ble_eq_true rfl⟩ hl.1 rfl (Nat.le_of_ble_eq_true rfl) dX0_goes_4 ⟨Nat.le_refl 0, Nat.le_refl 0⟩ (fun H locs hp => ?_)
  refine lv_if_eq (tgt := 19) hx hb dX0_goes_7 (by decide) (fun c3 => ?_) (fun c3 => ?_)
  · have hF := if_p c3 hF
    refine lv_iconst (v := -1) hx hb dX0_goes_19 (by decide) ?_
    cases hF
    exact m_iret X hp dX0_goes_20
  · have hF := if_n c3 hF
    refine lv_iload_n hx hb dX0_goes_10 rfl (lv_at hl 2 rfl) ?_
    refine lv_iconst (v := 0) hx hb dX0_goes_11 (by decide) ?_
    refine lv_iconst (v := 3) hx hb dX0_goes_12 (by decide) ?_
    obtain ⟨v5, e4, hF⟩ := ob_s hF
    refine m_callS (As := [.int x2, .int (0 : Int32), .int (3 : Int32)]) (rest := []) X hp (w_X0_isIn e4) q565 q566 q132 q567 3 rfl ds_X0_isIn ⟨Nat.le_of_ble_eq_true rfl, Nat.le_of_ble_eq_true rfl⟩ hl.1 rfl (Nat.le_of_ble_eq_true rfl) dX0_goes_13 ⟨Nat.le_refl 0, Nat.le_refl 0⟩ (fun H locs hp => ?_)
    refine lv_if_ne (tgt := 21) hx hb dX0_goes_16 (by decide) (fun c6 => ?_) (fun c6 => ?_)
    · have hF := if_n c6 hF
      refine lv_aload_n hx hb dX0_goes_21 rfl (lv_at hl 0 rfl) ?_
      obtain ⟨v7, e8, hF⟩ := ob_s hF
      refine m_getR X hp e8 kX0 (Nat.le_of_ble_eq_true rfl) q466 dX0_goes_22 ?_
      refine lv_aload_n hx hb dX0_goes_25 rfl (lv_at hl 0 rfl) ?_
      obtain ⟨v9, e10, hF⟩ := ob_s hF
      refine m_getR X hp e10 kX0 (Nat.le_of_ble_eq_true rfl) q463 dX0_goes_26 ?_
      obtain ⟨g11, hF⟩ := gd_s hF
      obtain ⟨M14, e12, hF⟩ := ob_s hF
      refine m_callV (As := [.ref v9]) (rest := []) X hp (w_X1_thinks e12) q1209 q1210 q1211 q133 q1212 1 rfl ds_X1_thinks ⟨Nat.le_of_ble_eq_true rfl, Nat.le_of_ble_eq_true rfl⟩ 2 (T := TX1) (N := 19) rfl (by decide) g11 hl.1 rfl (Nat.le_of_ble_eq_true rfl) dX0_goes_29 ⟨Nat.le_refl 0, Nat.le_refl 0⟩ (fun H locs hp => ?_)
      refine lv_iconst (v := 0) hx hb dX0_goes_32 (by decide) ?_
      refine lv_topi (fun v15 ev16 => ?_)
      have hF := nm_s hF ev16
      refine lv_istore_n (lv' := [(3, .int v15), (0, .ref x0), (1, .int x1), (2, .int x2)]) hx hb dX0_goes_33 rfl hl (by decide) rfl (fun ls hl => ?_)
      exact b_X0_goes_34 X _ _ _ _ _ _ _ _ _ hp (lv_sub hl [1, 2, 3, 0] rfl) hF
    · have hF := if_p c6 hF
      refine lv_iconst (v := -1) hx hb dX0_goes_19 (by decide) ?_
      cases hF
      exact m_iret X hp dX0_goes_20
end
section
variable {l : Launch} {D : va_G} {n0 : Nat} {P : mP} {S : mSh} {M : mMm} {n : Nat} {p : Program} {e : Env} {s : State} {m : MethodId} {args : Array Value} {below : List Frame} {meth : Method} {c : Code}
abbrev Rm_X3_second : Room := { frames := 0, cells := 0, slots := 0, locals := 0 }
def f_X3_second (S : mSh) (M : mMm) (x0 : Nat) (x1 : Int32) : Option Int32 := ob (rR S M x0 4 0) fun v1 => ob (aR S M v1 108 x1) fun v3 => ob (aI S M v3 100 (1 : Int32)) fun v5 => some v5
theorem w_X3_second {x0 : Nat} {x1 : Int32} {r : Int32} (hF : f_X3_second S M x0 x1 = some r) : mCt l D n0 P yX3_second cX3_second 2 (some .int) 0 0 0 0 [.ref x0, .int x1] S M n (some (.int r)) S M n := by
  refine m_ofW (by decide) (Nat.le_of_ble_eq_true rfl) (fun p e s m below meth c X hnm hp ls hl => ?_)
  have hx := X.1.1
  have hb := X.1.2.1
  have hown := X.1.2.2.2.1
  have hts := X.1.2.2.2.2
  have hl : lv_has ls 2 [(0, .ref x0), (1, .int x1)] := hl
  unfold f_X3_second at hF
  refine lv_aload_n hx hb dX3_second_0 rfl (lv_at hl 0 rfl) ?_
  obtain ⟨v1, e2, hF⟩ := ob_s hF
  refine m_getR X hp e2 kX3 (Nat.le_of_ble_eq_true rfl) q212 dX3_second_1 ?_
  refine lv_iload_n hx hb dX3_second_4 rfl (lv_at hl 1 rfl) ?_
  obtain ⟨v3, e4, hF⟩ := ob_s hF
  refine m_aaR 108 X hp e4 rfl (by decide) rfl dX3_second_5 ?_
  refine lv_iconst (v := 1) hx hb dX3_second_6 (by decide) ?_
  obtain ⟨v5, e6, hF⟩ := ob_s hF
  refine m_iaI X hp e6 dX3_second_7 ?_
  cases hF
  exact m_iret X hp dX3_second_8
end
section
variable {l : Launch} {D : va_G} {n0 : Nat} {P : mP} {S : mSh} {M : mMm} {n : Nat} {p : Program} {e : Env} {s : State} {m : MethodId} {args : Array Value} {below : List Frame} {meth : Method} {c : Code}
abbrev Rm_X0_hasGap : Room := { frames := 1, cells := 0, slots := 0, locals := 21 }
def fb_X0_hasGap_53 (S : mSh) (M : mMm) (k2 : Nat → Int32 → Int32 → Int32 → Option Int32) (x0 : Nat) (x1 : Int32) (x2 : Int32) (x3 : Int32) : Option Int32 := nm (x3 + (1 : Int32)) fun v27 => (k2 x0 x1 x2 v27)
theorem b_X0_hasGap_53 {r : Int32} (X : mCx D n0 P p m c cX0_hasGap 4 s args yX0_hasGap.cls meth (some .boolean)) (k2 : Nat → Int32 → Int32 → Int32 → Option Int32) (hk2 : ∀ (x0 : Nat) (x1 : Int32) (x2 : Int32) (x3 : Int32) (H : Heap) (locs : List Loc) (ls : Array Slot), mHp D n0 S M n s H locs → lv_has ls 4 [(0, .ref x0), (1, .int x1), (2, .int x2), (3, .int x3)] → k2 x0 x1 x2 x3 = some r → W p l e Rm_X0_hasGap s m args below meth c H locs 0 0 (MQ below (mQ D n0 (some (.int r)) S M n) args s 0 0 (mA n0)) (F0 m 2 ls [])) : ∀ (x0 : Nat) (x1 : Int32) (x2 : Int32) (x3 : Int32) (H : Heap) (locs : List Loc) (ls : Array Slot), mHp D n0 S M n s H locs → lv_has ls 4 [(0, .ref x0), (1, .int x1), (2, .int x2), (3, .int x3)] → fb_X0_hasGap_53 S M k2 x0 x1 x2 x3 = some r → W p l e Rm_X0_hasGap s m args below meth c H locs 0 0 (MQ below (mQ D n0 (some (.int r)) S M n) args s 0 0 (mA n0)) (F0 m 53 ls []) := by
  have hx := X.1.1
  have hb := X.1.2.1
  have hown := X.1.2.2.2.1
  have hts := X.1.2.2.2.2
  intro x0 x1 x2 x3 H locs ls hp hl hF
  unfold fb_X0_hasGap_53 at hF
  obtain ⟨v27, ev28⟩ : ∃ y : Int32, y = x3 + (1 : Int32) := ⟨_, rfl⟩
  have hF := nm_s hF ev28
  refine lv_iinc (v := v27) (lv' := [(3, .int v27), (0, .ref x0), (1, .int x1), (2, .int x2)]) hx hb dX0_hasGap_53 hl (k := 3) rfl (by rw [ev28]; rfl) (by decide) rfl (fun ls hl => ?_)
  refine lv_goto (tgt := 2) hx hb dX0_hasGap_56 (by decide) ?_
  exact hk2 _ _ _ _ _ _ _ hp (lv_sub hl [1, 2, 3, 0] rfl) hF
def fb_X0_hasGap_2 (S : mSh) (M : mMm) : Nat → Nat → Int32 → Int32 → Int32 → Option Int32
  | 0, _, _, _, _ => none
  | t + 1, x0, x1, x2, x3 => ob (rR S M x0 1 4) fun v3 => ob (rR S M v3 2 6) fun v5 => ob (rI S M v5 4 1) fun v7 => (if v7 ≤ x3 then some (0 : Int32) else ob (rR S M x0 1 4) fun v10 => ob (rR S M v10 2 6) fun v12 => gd ((S v12).1 = 4) (ob (f_X3_first S M v12 x3) fun v16 => (if v16 = x1 then (if x2 = (-1 : Int32) then some (1 : Int32) else ob (rR S M x0 1 4) fun v19 => ob (rR S M v19 2 6) fun v21 => gd ((S v21).1 = 4) (ob (f_X3_second S M v21 x3) fun v25 => (if v25 = x2 then some (1 : Int32) else (fb_X0_hasGap_53 S M (fb_X0_hasGap_2 S M t) x0 x1 x2 x3)))) else (fb_X0_hasGap_53 S M (fb_X0_hasGap_2 S M t) x0 x1 x2 x3))))
theorem b_X0_hasGap_2 {r : Int32} (X : mCx D n0 P p m c cX0_hasGap 4 s args yX0_hasGap.cls meth (some .boolean)) : ∀ t : Nat, ∀ (x0 : Nat) (x1 : Int32) (x2 : Int32) (x3 : Int32) (H : Heap) (locs : List Loc) (ls : Array Slot), mHp D n0 S M n s H locs → lv_has ls 4 [(0, .ref x0), (1, .int x1), (2, .int x2), (3, .int x3)] → fb_X0_hasGap_2 S M t x0 x1 x2 x3 = some r → W p l e Rm_X0_hasGap s m args below meth c H locs 0 0 (MQ below (mQ D n0 (some (.int r)) S M n) args s 0 0 (mA n0)) (F0 m 2 ls []) := by
  have hx := X.1.1
  have hb := X.1.2.1
  have hown := X.1.2.2.2.1
  have hts := X.1.2.2.2.2
  intro t
  induction t with
  | zero =>
    intro x0 x1 x2 x3 H locs ls hp hl hF
    have hF : none = some r := hF
    cases hF
  | succ t ih =>
    intro x0 x1 x2 x3 H locs ls hp hl hF
    rw [fb_X0_hasGap_2] at hF
    refine lv_iload_n hx hb dX0_hasGap_2 rfl (lv_at hl 3 rfl) ?_
    refine lv_aload_n hx hb dX0_hasGap_3 rfl (lv_at hl 0 rfl) ?_
    obtain ⟨v3, e4, hF⟩ := ob_s hF
    refine m_getR X hp e4 kX0 (Nat.le_of_ble_eq_true rfl) q463 dX0_hasGap_4 ?_
    obtain ⟨v5, e6, hF⟩ := ob_s hF
    refine m_getRN X hp e6 kX1 (Nat.le_of_ble_eq_true rfl) q388 dX0_hasGap_7 ?_
    obtain ⟨v7, e8, hF⟩ := ob_s hF
    refine m_getIN X hp e8 kX3 (Nat.le_of_ble_eq_true rfl) q214 dX0_hasGap_10 ?_
    refine lv_icmp_ge (tgt := 59) hx hb dX0_hasGap_13 (by decide) (fun c9 => ?_) (fun c9 => ?_)
    · have hF := if_p c9 hF
      refine lv_iconst (v := 0) hx hb dX0_hasGap_59 (by decide) ?_
      cases hF
      exact m_zret X hp rfl dX0_hasGap_60
    · have hF := if_n c9 hF
      refine lv_aload_n hx hb dX0_hasGap_16 rfl (lv_at hl 0 rfl) ?_
      obtain ⟨v10, e11, hF⟩ := ob_s hF
      refine m_getR X hp e11 kX0 (Nat.le_of_ble_eq_true rfl) q463 dX0_hasGap_17 ?_
      obtain ⟨v12, e13, hF⟩ := ob_s hF
      refine m_getRN X hp e13 kX1 (Nat.le_of_ble_eq_true rfl) q388 dX0_hasGap_20 ?_
      refine lv_iload_n hx hb dX0_hasGap_23 rfl (lv_at hl 3 rfl) ?_
      obtain ⟨g14, hF⟩ := gd_s hF
      obtain ⟨v16, e15, hF⟩ := ob_s hF
      refine m_callV (As := [.int x3]) (rest := []) X hp (w_X3_first e15) q1304 q1305 q1306 q135 q1307 1 rfl ds_X3_first ⟨Nat.le_of_ble_eq_true rfl, Nat.le_of_ble_eq_true rfl⟩ 4 (T := TX3) (N := 2) rfl (by decide) g14 hl.1 rfl (Nat.le_of_ble_eq_true rfl) dX0_hasGap_24 ⟨Nat.le_refl 0, Nat.le_refl 0⟩ (fun H locs hp => ?_)
      refine lv_iload_n hx hb dX0_hasGap_27 rfl (lv_at hl 1 rfl) ?_
      refine lv_icmp_ne (tgt := 53) hx hb dX0_hasGap_28 (by decide) (fun c17 => ?_) (fun c17 => ?_)
      · have hF := if_n c17 hF
        exact b_X0_hasGap_53 X _ ih _ _ _ _ _ _ _ hp (lv_sub hl [0, 1, 2, 3] rfl) hF
      · have hF := if_p c17 hF
        refine lv_iload_n hx hb dX0_hasGap_31 rfl (lv_at hl 2 rfl) ?_
        refine lv_iconst (v := -1) hx hb dX0_hasGap_32 (by decide) ?_
        refine lv_icmp_eq (tgt := 51) hx hb dX0_hasGap_33 (by decide) (fun c18 => ?_) (fun c18 => ?_)
        · have hF := if_p c18 hF
          refine lv_iconst (v := 1) hx hb dX0_hasGap_51 (by decide) ?_
          cases hF
          exact m_zret X hp rfl dX0_hasGap_52
        · have hF := if_n c18 hF
          refine lv_aload_n hx hb dX0_hasGap_36 rfl (lv_at hl 0 rfl) ?_
          obtain ⟨v19, e20, hF⟩ := ob_s hF
          refine m_getR X hp e20 kX0 (Nat.le_of_ble_eq_true rfl) q463 dX0_hasGap_37 ?_
          obtain ⟨v21, e22, hF⟩ := ob_s hF
          refine m_getRN X hp e22 kX1 (Nat.le_of_ble_eq_true rfl) q388 dX0_hasGap_40 ?_
          refine lv_iload_n hx hb dX0_hasGap_43 rfl (lv_at hl 3 rfl) ?_
          obtain ⟨g23, hF⟩ := gd_s hF
          obtain ⟨v25, e24, hF⟩ := ob_s hF
          refine m_callV (As := [.int x3]) (rest := []) X hp (w_X3_second e24) q1391 q1392 q1393 q135 q1394 1 rfl ds_X3_second ⟨Nat.le_of_ble_eq_true rfl, Nat.le_of_ble_eq_true rfl⟩ 4 (T := TX3) (N := 2) rfl (by decide) g23 hl.1 rfl (Nat.le_of_ble_eq_true rfl) dX0_hasGap_44 ⟨Nat.le_refl 0, Nat.le_refl 0⟩ (fun H locs hp => ?_)
          refine lv_iload_n hx hb dX0_hasGap_47 rfl (lv_at hl 2 rfl) ?_
          refine lv_icmp_ne (tgt := 53) hx hb dX0_hasGap_48 (by decide) (fun c26 => ?_) (fun c26 => ?_)
          · have hF := if_n c26 hF
            exact b_X0_hasGap_53 X _ ih _ _ _ _ _ _ _ hp (lv_sub hl [0, 1, 2, 3] rfl) hF
          · have hF := if_p c26 hF
            refine lv_iconst (v := 1) hx hb dX0_hasGap_51 (by decide) ?_
            cases hF
            exact m_zret X hp rfl dX0_hasGap_52
def f_X0_hasGap (S : mSh) (M : mMm) (x0 : Nat) (x1 : Int32) (x2 : Int32) : Option Int32 := nm ((0 : Int32)) fun v1 => (fb_X0_hasGap_2 S M FU x0 x1 x2 v1)
theorem w_X0_hasGap {x0 : Nat} {x1 : Int32} {x2 : Int32} {r : Int32} (hF : f_X0_hasGap S M x0 x1 x2 = some r) : mCt l D n0 P yX0_hasGap cX0_hasGap 4 (some .boolean) 1 21 0 0 [.ref x0, .int x1, .int x2] S M n (some (.int r)) S M n := by
  refine m_ofW (by decide) (Nat.le_of_ble_eq_true rfl) (fun p e s m below meth c X hnm hp ls hl => ?_)
  have hx := X.1.1
  have hb := X.1.2.1
  have hown := X.1.2.2.2.1
  have hts := X.1.2.2.2.2
  have hl : lv_has ls 4 [(0, .ref x0), (1, .int x1), (2, .int x2)] := hl
  unfold f_X0_hasGap at hF
  refine lv_iconst (v := 0) hx hb dX0_hasGap_0 (by decide) ?_
  refine lv_topi (fun v1 ev2 => ?_)
  have hF := nm_s hF ev2
  refine lv_istore_n (lv' := [(3, .int v1), (0, .ref x0), (1, .int x1), (2, .int x2)]) hx hb dX0_hasGap_1 rfl hl (by decide) rfl (fun ls hl => ?_)
  exact b_X0_hasGap_2 X _ _ _ _ _ _ _ _ hp (lv_sub hl [1, 2, 3, 0] rfl) hF
end
section
variable {l : Launch} {D : va_G} {n0 : Nat} {P : mP} {S : mSh} {M : mMm} {n : Nat} {p : Program} {e : Env} {s : State} {m : MethodId} {args : Array Value} {below : List Frame} {meth : Method} {c : Code}
abbrev Rm_X0_hedge : Room := { frames := 2, cells := 0, slots := 0, locals := 44 }
def fb_X0_hedge_112 (S : mSh) (k66 : mMm → Nat → Int32 → Int32 → Int32 → Option (Int32 × mMm)) (M : mMm) (x0 : Nat) (x1 : Int32) (x2 : Int32) (x3 : Int32) : Option (Int32 × mMm) := nm (x3 + (1 : Int32)) fun v68 => (k66 M x0 x1 x2 v68)
theorem b_X0_hedge_112 {r : Int32} {M' : mMm} (X : mCx D n0 P p m c cX0_hedge 4 s args yX0_hedge.cls meth (some .int)) (k66 : mMm → Nat → Int32 → Int32 → Int32 → Option (Int32 × mMm)) (hk66 : ∀ (M : mMm) (x0 : Nat) (x1 : Int32) (x2 : Int32) (x3 : Int32) (H : Heap) (locs : List Loc) (ls : Array Slot), mHp D n0 S M n s H locs → lv_has ls 4 [(0, .ref x0), (1, .int x1), (2, .int x2), (3, .int x3)] → k66 M x0 x1 x2 x3 = some (r, M') → W p l e Rm_X0_hedge s m args below meth c H locs 0 0 (MQ below (mQ D n0 (some (.int r)) S M' n) args s 0 0 (mA n0)) (F0 m 66 ls [])) : ∀ (M : mMm) (x0 : Nat) (x1 : Int32) (x2 : Int32) (x3 : Int32) (H : Heap) (locs : List Loc) (ls : Array Slot), mHp D n0 S M n s H locs → lv_has ls 4 [(0, .ref x0), (1, .int x1), (2, .int x2), (3, .int x3)] → fb_X0_hedge_112 S k66 M x0 x1 x2 x3 = some (r, M') → W p l e Rm_X0_hedge s m args below meth c H locs 0 0 (MQ below (mQ D n0 (some (.int r)) S M' n) args s 0 0 (mA n0)) (F0 m 112 ls []) := by
  have hx := X.1.1
  have hb := X.1.2.1
  have hown := X.1.2.2.2.1
  have hts := X.1.2.2.2.2
  intro M x0 x1 x2 x3 H locs ls hp hl hF
  unfold fb_X0_hedge_112 at hF
  obtain ⟨v68, ev69⟩ : ∃ y : Int32, y = x3 + (1 : Int32) := ⟨_, rfl⟩
  have hF := nm_s hF ev69
  refine lv_iinc (v := v68) (lv' := [(3, .int v68), (0, .ref x0), (1, .int x1), (2, .int x2)]) hx hb dX0_hedge_112 hl (k := 3) rfl (by rw [ev69]; rfl) (by decide) rfl (fun ls hl => ?_)
  refine lv_goto (tgt := 66) hx hb dX0_hedge_115 (by decide) ?_
  exact hk66 _ _ _ _ _ _ _ _ hp (lv_sub hl [1, 2, 3, 0] rfl) hF
def fb_X0_hedge_66 (S : mSh) (k46 : mMm → Nat → Int32 → Int32 → Option (Int32 × mMm)) : Nat → mMm → Nat → Int32 → Int32 → Int32 → Option (Int32 × mMm)
  | 0, _, _, _, _, _ => none
  | t + 1, M, x0, x1, x2, x3 => ob (rR S M x0 1 25) fun v42 => ob (aN S v42 100) fun v44 => (if v44 ≤ x3 then nm (x2 + (1 : Int32)) fun v47 => (k46 M x0 x1 v47) else ob (f_X0_hasGap S M x0 x1 x3) fun v50 => (if v50 = 0 then (fb_X0_hedge_112 S (fb_X0_hedge_66 S k46 t) M x0 x1 x2 x3) else ob (rR S M x0 1 26) fun v52 => ob (rR S M x0 1 26) fun v54 => ob (aI S M v54 100 x2) fun v56 => ob (rR S M x0 1 25) fun v58 => ob (aI S M v58 100 x3) fun v60 => ob (f_J4_abs (x2 - x3)) fun v63 => ob (f_J4_min v56 (v60 + v63)) fun v65 => ob (wA S M v52 100 x2 (.int v65)) fun M66 => (fb_X0_hedge_112 S (fb_X0_hedge_66 S k46 t) M66 x0 x1 x2 x3)))
theorem b_X0_hedge_66 {r : Int32} {M' : mMm} (X : mCx D n0 P p m c cX0_hedge 4 s args yX0_hedge.cls meth (some .int)) (k46 : mMm → Nat → Int32 → Int32 → Option (Int32 × mMm)) (hk46 : ∀ (M : mMm) (x0 : Nat) (x1 : Int32) (x2 : Int32) (H : Heap) (locs : List Loc) (ls : Array Slot), mHp D n0 S M n s H locs → lv_has ls 4 [(0, .ref x0), (1, .int x1), (2, .int x2)] → k46 M x0 x1 x2 = some (r, M') → W p l e Rm_X0_hedge s m args below meth c H locs 0 0 (MQ below (mQ D n0 (some (.int r)) S M' n) args s 0 0 (mA n0)) (F0 m 46 ls [])) : ∀ t : Nat, ∀ (M : mMm) (x0 : Nat) (x1 : Int32) (x2 : Int32) (x3 : Int32) (H : Heap) (locs : List Loc) (ls : Array Slot), mHp D n0 S M n s H locs → lv_has ls 4 [(0, .ref x0), (1, .int x1), (2, .int x2), (3, .int x3)] → fb_X0_hedge_66 S k46 t M x0 x1 x2 x3 = some (r, M') → W p l e Rm_X0_hedge s m args below meth c H locs 0 0 (MQ below (mQ D n0 (some (.int r)) S M' n) args s 0 0 (mA n0)) (F0 m 66 ls []) := by
  have hx := X.1.1
  have hb := X.1.2.1
  have hown := X.1.2.2.2.1
  have hts := X.1.2.2.2.2
  intro t
  induction t with
  | zero =>
    intro M x0 x1 x2 x3 H locs ls hp hl hF
    have hF : none = some (r, M') := hF
    cases hF
  | succ t ih =>
    intro M x0 x1 x2 x3 H locs ls hp hl hF
    rw [fb_X0_hedge_66] at hF
    refine lv_iload_n hx hb dX0_hedge_66 rfl (lv_at hl 3 rfl) ?_
    refine lv_aload_n hx hb dX0_hedge_67 rfl (lv_at hl 0 rfl) ?_
    obtain ⟨v42, e43, hF⟩ := ob_s hF
    refine m_getR X hp e43 kX0 (Nat.le_of_ble_eq_true rfl) q485 dX0_hedge_68 ?_
    obtain ⟨v44, e45, hF⟩ := ob_s hF
    refine m_aln 100 X hp e45 rfl (by decide) dX0_hedge_71 ?_
    refine lv_icmp_ge (tgt := 118) hx hb dX0_hedge_72 (by decide) (fun c46 => ?_) (fun c46 => ?_)
    · have hF := if_p c46 hF
      obtain ⟨v47, ev48⟩ : ∃ y : Int32, y = x2 + (1 : Int32) := ⟨_, rfl⟩
      have hF := nm_s hF ev48
      refine lv_iinc (v := v47) (lv' := [(2, .int v47), (0, .ref x0), (1, .int x1), (3, .int x3)]) hx hb dX0_hedge_118 hl (k := 2) rfl (by rw [ev48]; rfl) (by decide) rfl (fun ls hl => ?_)
      refine lv_goto (tgt := 46) hx hb dX0_hedge_121 (by decide) ?_
      exact hk46 _ _ _ _ _ _ _ hp (lv_sub hl [1, 2, 0] rfl) hF
    · have hF := if_n c46 hF
      refine lv_aload_n hx hb dX0_hedge_75 rfl (lv_at hl 0 rfl) ?_
      refine lv_iload_n hx hb dX0_hedge_76 rfl (lv_at hl 1 rfl) ?_
      refine lv_iload_n hx hb dX0_hedge_77 rfl (lv_at hl 3 rfl) ?_
      obtain ⟨v50, e49, hF⟩ := ob_s hF
      refine m_callV (As := [.int x1, .int x3]) (rest := []) X hp (w_X0_hasGap e49) q1387 q1389 qs59 q132 q1390 2 rfl ds_X0_hasGap ⟨Nat.le_of_ble_eq_true rfl, Nat.le_of_ble_eq_true rfl⟩ 1 (T := TX0) (N := 30) rfl (by decide) (rR_s e43).1 hl.1 rfl (Nat.le_of_ble_eq_true rfl) dX0_hedge_78 ⟨Nat.le_refl 0, Nat.le_refl 0⟩ (fun H locs hp => ?_)
      refine lv_if_eq (tgt := 112) hx hb dX0_hedge_81 (by decide) (fun c51 => ?_) (fun c51 => ?_)
      · have hF := if_p c51 hF
        exact b_X0_hedge_112 X _ ih _ _ _ _ _ _ _ _ hp (lv_sub hl [0, 1, 2, 3] rfl) hF
      · have hF := if_n c51 hF
        refine lv_aload_n hx hb dX0_hedge_84 rfl (lv_at hl 0 rfl) ?_
        obtain ⟨v52, e53, hF⟩ := ob_s hF
        refine m_getR X hp e53 kX0 (Nat.le_of_ble_eq_true rfl) q486 dX0_hedge_85 ?_
        refine lv_iload_n hx hb dX0_hedge_88 rfl (lv_at hl 2 rfl) ?_
        refine lv_aload_n hx hb dX0_hedge_89 rfl (lv_at hl 0 rfl) ?_
        obtain ⟨v54, e55, hF⟩ := ob_s hF
        refine m_getR X hp e55 kX0 (Nat.le_of_ble_eq_true rfl) q486 dX0_hedge_90 ?_
        refine lv_iload_n hx hb dX0_hedge_93 rfl (lv_at hl 2 rfl) ?_
        obtain ⟨v56, e57, hF⟩ := ob_s hF
        refine m_iaI X hp e57 dX0_hedge_94 ?_
        refine lv_aload_n hx hb dX0_hedge_95 rfl (lv_at hl 0 rfl) ?_
        obtain ⟨v58, e59, hF⟩ := ob_s hF
        refine m_getR X hp e59 kX0 (Nat.le_of_ble_eq_true rfl) q485 dX0_hedge_96 ?_
        refine lv_iload_n hx hb dX0_hedge_99 rfl (lv_at hl 3 rfl) ?_
        obtain ⟨v60, e61, hF⟩ := ob_s hF
        refine m_iaI X hp e61 dX0_hedge_100 ?_
        refine lv_iload_n hx hb dX0_hedge_101 rfl (lv_at hl 2 rfl) ?_
        refine lv_iload_n hx hb dX0_hedge_102 rfl (lv_at hl 3 rfl) ?_
        refine lv_isub hx hb dX0_hedge_103 ?_
        obtain ⟨v63, e62, hF⟩ := ob_s hF
        refine m_callS (As := [.int (x2 - x3)]) (rest := [.int v60, .int v56, .int x2, .ref v52]) X hp (w_J4_abs e62) q1267 q1268 q141 q1269 1 rfl ds_J4_abs ⟨Nat.le_of_ble_eq_true rfl, Nat.le_of_ble_eq_true rfl⟩ hl.1 rfl (Nat.le_of_ble_eq_true rfl) dX0_hedge_104 ⟨Nat.le_refl 0, Nat.le_refl 0⟩ (fun H locs hp => ?_)
        refine lv_iadd hx hb dX0_hedge_107 ?_
        obtain ⟨v65, e64, hF⟩ := ob_s hF
        refine m_callS (As := [.int v56, .int (v60 + v63)]) (rest := [.int x2, .ref v52]) X hp (w_J4_min e64) q1169 q368 q141 q369 2 rfl ds_J4_min ⟨Nat.le_of_ble_eq_true rfl, Nat.le_of_ble_eq_true rfl⟩ hl.1 rfl (Nat.le_of_ble_eq_true rfl) dX0_hedge_108 ⟨Nat.le_refl 0, Nat.le_refl 0⟩ (fun H locs hp => ?_)
        obtain ⟨M66, e67, hF⟩ := ob_s hF
        refine m_iaW X hp e67 dX0_hedge_111 (fun H locs hp => ?_)
        exact b_X0_hedge_112 X _ ih _ _ _ _ _ _ _ _ hp (lv_sub hl [0, 1, 2, 3] rfl) hF
def fb_X0_hedge_153 (S : mSh) (k26 : mMm → Nat → Int32 → Option (Int32 × mMm)) (M : mMm) (x0 : Nat) (x1 : Int32) : Option (Int32 × mMm) := nm (x1 + (1 : Int32)) fun v27 => (k26 M x0 v27)
theorem b_X0_hedge_153 {r : Int32} {M' : mMm} (X : mCx D n0 P p m c cX0_hedge 4 s args yX0_hedge.cls meth (some .int)) (k26 : mMm → Nat → Int32 → Option (Int32 × mMm)) (hk26 : ∀ (M : mMm) (x0 : Nat) (x1 : Int32) (H : Heap) (locs : List Loc) (ls : Array Slot), mHp D n0 S M n s H locs → lv_has ls 4 [(0, .ref x0), (1, .int x1)] → k26 M x0 x1 = some (r, M') → W p l e Rm_X0_hedge s m args below meth c H locs 0 0 (MQ below (mQ D n0 (some (.int r)) S M' n) args s 0 0 (mA n0)) (F0 m 26 ls [])) : ∀ (M : mMm) (x0 : Nat) (x1 : Int32) (H : Heap) (locs : List Loc) (ls : Array Slot), mHp D n0 S M n s H locs → lv_has ls 4 [(0, .ref x0), (1, .int x1)] → fb_X0_hedge_153 S k26 M x0 x1 = some (r, M') → W p l e Rm_X0_hedge s m args below meth c H locs 0 0 (MQ below (mQ D n0 (some (.int r)) S M' n) args s 0 0 (mA n0)) (F0 m 153 ls []) := by
  have hx := X.1.1
  have hb := X.1.2.1
  have hown := X.1.2.2.2.1
  have hts := X.1.2.2.2.2
  intro M x0 x1 H locs ls hp hl hF
  unfold fb_X0_hedge_153 at hF
  obtain ⟨v27, ev28⟩ : ∃ y : Int32, y = x1 + (1 : Int32) := ⟨_, rfl⟩
  have hF := nm_s hF ev28
  refine lv_iinc (v := v27) (lv' := [(1, .int v27), (0, .ref x0)]) hx hb dX0_hedge_153 hl (k := 1) rfl (by rw [ev28]; rfl) (by decide) rfl (fun ls hl => ?_)
  refine lv_goto (tgt := 26) hx hb dX0_hedge_156 (by decide) ?_
  exact hk26 _ _ _ _ _ _ hp (lv_sub hl [1, 0] rfl) hF
def fb_X0_hedge_126 (S : mSh) (k26 : mMm → Nat → Int32 → Option (Int32 × mMm)) : Nat → mMm → Nat → Int32 → Int32 → Option (Int32 × mMm)
  | 0, _, _, _, _ => none
  | t + 1, M, x0, x1, x2 => ob (rR S M x0 1 25) fun v70 => ob (aN S v70 100) fun v72 => (if v72 ≤ x2 then (fb_X0_hedge_153 S k26 M x0 x1) else ob (rR S M x0 1 25) fun v75 => ob (rR S M x0 1 26) fun v77 => ob (aI S M v77 100 x2) fun v79 => ob (wA S M v75 100 x2 (.int v79)) fun M81 => nm (x2 + (1 : Int32)) fun v83 => (fb_X0_hedge_126 S k26 t M81 x0 x1 v83))
theorem b_X0_hedge_126 {r : Int32} {M' : mMm} (X : mCx D n0 P p m c cX0_hedge 4 s args yX0_hedge.cls meth (some .int)) (k26 : mMm → Nat → Int32 → Option (Int32 × mMm)) (hk26 : ∀ (M : mMm) (x0 : Nat) (x1 : Int32) (H : Heap) (locs : List Loc) (ls : Array Slot), mHp D n0 S M n s H locs → lv_has ls 4 [(0, .ref x0), (1, .int x1)] → k26 M x0 x1 = some (r, M') → W p l e Rm_X0_hedge s m args below meth c H locs 0 0 (MQ below (mQ D n0 (some (.int r)) S M' n) args s 0 0 (mA n0)) (F0 m 26 ls [])) : ∀ t : Nat, ∀ (M : mMm) (x0 : Nat) (x1 : Int32) (x2 : Int32) (H : Heap) (locs : List Loc) (ls : Array Slot), mHp D n0 S M n s H locs → lv_has ls 4 [(0, .ref x0), (1, .int x1), (2, .int x2)] → fb_X0_hedge_126 S k26 t M x0 x1 x2 = some (r, M') → W p l e Rm_X0_hedge s m args below meth c H locs 0 0 (MQ below (mQ D n0 (some (.int r)) S M' n) args s 0 0 (mA n0)) (F0 m 126 ls []) := by
  have hx := X.1.1
  have hb := X.1.2.1
  have hown := X.1.2.2.2.1
  have hts := X.1.2.2.2.2
  intro t
  induction t with
  | zero =>
    intro M x0 x1 x2 H locs ls hp hl hF
    have hF : none = some (r, M') := hF
    cases hF
  | succ t ih =>
    intro M x0 x1 x2 H locs ls hp hl hF
    rw [fb_X0_hedge_126] at hF
    refine lv_iload_n hx hb dX0_hedge_126 rfl (lv_at hl 2 rfl) ?_
    refine lv_aload_n hx hb dX0_hedge_127 rfl (lv_at hl 0 rfl) ?_
    obtain ⟨v70, e71, hF⟩ := ob_s hF
    refine m_getR X hp e71 kX0 (Nat.le_of_ble_eq_true rfl) q485 dX0_hedge_128 ?_
    obtain ⟨v72, e73, hF⟩ := ob_s hF
    refine m_aln 100 X hp e73 rfl (by decide) dX0_hedge_131 ?_
    refine lv_icmp_ge (tgt := 153) hx hb dX0_hedge_132 (by decide) (fun c74 => ?_) (fun c74 => ?_)
    · have hF := if_p c74 hF
      exact b_X0_hedge_153 X _ hk26 _ _ _ _ _ _ hp (lv_sub hl [0, 1] rfl) hF
    · have hF := if_n c74 hF
      refine lv_aload_n hx hb dX0_hedge_135 rfl (lv_at hl 0 rfl) ?_
      obtain ⟨v75, e76, hF⟩ := ob_s hF
      refine m_getR X hp e76 kX0 (Nat.le_of_ble_eq_true rfl) q485 dX0_hedge_136 ?_
      refine lv_iload_n hx hb dX0_hedge_139 rfl (lv_at hl 2 rfl) ?_
      refine lv_aload_n hx hb dX0_hedge_140 rfl (lv_at hl 0 rfl) ?_
      obtain ⟨v77, e78, hF⟩ := ob_s hF
      refine m_getR X hp e78 kX0 (Nat.le_of_ble_eq_true rfl) q486 dX0_hedge_141 ?_
      refine lv_iload_n hx hb dX0_hedge_144 rfl (lv_at hl 2 rfl) ?_
      obtain ⟨v79, e80, hF⟩ := ob_s hF
      refine m_iaI X hp e80 dX0_hedge_145 ?_
      obtain ⟨M81, e82, hF⟩ := ob_s hF
      refine m_iaW X hp e82 dX0_hedge_146 (fun H locs hp => ?_)
      obtain ⟨v83, ev84⟩ : ∃ y : Int32, y = x2 + (1 : Int32) := ⟨_, rfl⟩
      have hF := nm_s hF ev84
      refine lv_iinc (v := v83) (lv' := [(2, .int v83), (0, .ref x0), (1, .int x1)]) hx hb dX0_hedge_147 hl (k := 2) rfl (by rw [ev84]; rfl) (by decide) rfl (fun ls hl => ?_)
      refine lv_goto (tgt := 126) hx hb dX0_hedge_150 (by decide) ?_
      exact ih _ _ _ _ _ _ _ hp (lv_sub hl [1, 2, 0] rfl) hF
def fb_X0_hedge_46 (S : mSh) (k26 : mMm → Nat → Int32 → Option (Int32 × mMm)) : Nat → mMm → Nat → Int32 → Int32 → Option (Int32 × mMm)
  | 0, _, _, _, _ => none
  | t + 1, M, x0, x1, x2 => ob (rR S M x0 1 25) fun v29 => ob (aN S v29 100) fun v31 => (if v31 ≤ x2 then nm ((0 : Int32)) fun v34 => (fb_X0_hedge_126 S k26 FU M x0 x1 v34) else ob (rR S M x0 1 26) fun v36 => ob (wA S M v36 100 x2 (.int (1000000 : Int32))) fun M38 => nm ((0 : Int32)) fun v40 => (fb_X0_hedge_66 S (fb_X0_hedge_46 S k26 t) FU M38 x0 x1 x2 v40))
theorem b_X0_hedge_46 {r : Int32} {M' : mMm} (X : mCx D n0 P p m c cX0_hedge 4 s args yX0_hedge.cls meth (some .int)) (k26 : mMm → Nat → Int32 → Option (Int32 × mMm)) (hk26 : ∀ (M : mMm) (x0 : Nat) (x1 : Int32) (H : Heap) (locs : List Loc) (ls : Array Slot), mHp D n0 S M n s H locs → lv_has ls 4 [(0, .ref x0), (1, .int x1)] → k26 M x0 x1 = some (r, M') → W p l e Rm_X0_hedge s m args below meth c H locs 0 0 (MQ below (mQ D n0 (some (.int r)) S M' n) args s 0 0 (mA n0)) (F0 m 26 ls [])) : ∀ t : Nat, ∀ (M : mMm) (x0 : Nat) (x1 : Int32) (x2 : Int32) (H : Heap) (locs : List Loc) (ls : Array Slot), mHp D n0 S M n s H locs → lv_has ls 4 [(0, .ref x0), (1, .int x1), (2, .int x2)] → fb_X0_hedge_46 S k26 t M x0 x1 x2 = some (r, M') → W p l e Rm_X0_hedge s m args below meth c H locs 0 0 (MQ below (mQ D n0 (some (.int r)) S M' n) args s 0 0 (mA n0)) (F0 m 46 ls []) := by
  have hx := X.1.1
  have hb := X.1.2.1
  have hown := X.1.2.2.2.1
  have hts := X.1.2.2.2.2
  intro t
  induction t with
  | zero =>
    intro M x0 x1 x2 H locs ls hp hl hF
    have hF : none = some (r, M') := hF
    cases hF
  | succ t ih =>
    intro M x0 x1 x2 H locs ls hp hl hF
    rw [fb_X0_hedge_46] at hF
    refine lv_iload_n hx hb dX0_hedge_46 rfl (lv_at hl 2 rfl) ?_
    refine lv_aload_n hx hb dX0_hedge_47 rfl (lv_at hl 0 rfl) ?_
    obtain ⟨v29, e30, hF⟩ := ob_s hF
    refine m_getR X hp e30 kX0 (Nat.le_of_ble_eq_true rfl) q485 dX0_hedge_48 ?_
    obtain ⟨v31, e32, hF⟩ := ob_s hF
    refine m_aln 100 X hp e32 rfl (by decide) dX0_hedge_51 ?_
    refine lv_icmp_ge (tgt := 124) hx hb dX0_hedge_52 (by decide) (fun c33 => ?_) (fun c33 => ?_)
    · have hF := if_p c33 hF
      refine lv_iconst (v := 0) hx hb dX0_hedge_124 (by decide) ?_
      refine lv_topi (fun v34 ev35 => ?_)
      have hF := nm_s hF ev35
      refine lv_istore_n (lv' := [(2, .int v34), (0, .ref x0), (1, .int x1)]) hx hb dX0_hedge_125 rfl hl (by decide) rfl (fun ls hl => ?_)
      exact b_X0_hedge_126 X _ hk26 _ _ _ _ _ _ _ _ hp (lv_sub hl [1, 2, 0] rfl) hF
    · have hF := if_n c33 hF
      refine lv_aload_n hx hb dX0_hedge_55 rfl (lv_at hl 0 rfl) ?_
      obtain ⟨v36, e37, hF⟩ := ob_s hF
      refine m_getR X hp e37 kX0 (Nat.le_of_ble_eq_true rfl) q486 dX0_hedge_56 ?_
      refine lv_iload_n hx hb dX0_hedge_59 rfl (lv_at hl 2 rfl) ?_
      refine lv_ldcw hx hb hown (hts _ q1236) dX0_hedge_60 ?_
      obtain ⟨M38, e39, hF⟩ := ob_s hF
      refine m_iaW X hp e39 dX0_hedge_63 (fun H locs hp => ?_)
      refine lv_iconst (v := 0) hx hb dX0_hedge_64 (by decide) ?_
      refine lv_topi (fun v40 ev41 => ?_)
      have hF := nm_s hF ev41
      refine lv_istore_n (lv' := [(3, .int v40), (0, .ref x0), (1, .int x1), (2, .int x2)]) hx hb dX0_hedge_65 rfl hl (by decide) rfl (fun ls hl => ?_)
      exact b_X0_hedge_66 X _ ih _ _ _ _ _ _ _ _ _ hp (lv_sub hl [1, 2, 3, 0] rfl) hF
def fb_X0_hedge_26 (S : mSh) : Nat → mMm → Nat → Int32 → Option (Int32 × mMm)
  | 0, _, _, _ => none
  | t + 1, M, x0, x1 => (if (8 : Int32) ≤ x1 then ob (rR S M x0 1 25) fun v17 => ob (aI S M v17 100 (0 : Int32)) fun v19 => some (v19, M) else gd ((S x0).1 = 1) (ob (f_X0_hasGap S M x0 x1 (-1 : Int32)) fun v23 => (if v23 = 0 then (fb_X0_hedge_153 S (fb_X0_hedge_26 S t) M x0 x1) else nm ((0 : Int32)) fun v25 => (fb_X0_hedge_46 S (fb_X0_hedge_26 S t) FU M x0 x1 v25))))
theorem b_X0_hedge_26 {r : Int32} {M' : mMm} (X : mCx D n0 P p m c cX0_hedge 4 s args yX0_hedge.cls meth (some .int)) : ∀ t : Nat, ∀ (M : mMm) (x0 : Nat) (x1 : Int32) (H : Heap) (locs : List Loc) (ls : Array Slot), mHp D n0 S M n s H locs → lv_has ls 4 [(0, .ref x0), (1, .int x1)] → fb_X0_hedge_26 S t M x0 x1 = some (r, M') → W p l e Rm_X0_hedge s m args below meth c H locs 0 0 (MQ below (mQ D n0 (some (.int r)) S M' n) args s 0 0 (mA n0)) (F0 m 26 ls []) := by
  have hx := X.1.1
  have hb := X.1.2.1
  have hown := X.1.2.2.2.1
  have hts := X.1.2.2.2.2
  intro t
  induction t with
  | zero =>
    intro M x0 x1 H locs ls hp hl hF
    have hF : none = some (r, M') := hF
    cases hF
  | succ t ih =>
    intro M x0 x1 H locs ls hp hl hF
    rw [fb_X0_hedge_26] at hF
    refine lv_iload_n hx hb dX0_hedge_26 rfl (lv_at hl 1 rfl) ?_
    refine lv_bipush (v := 8) hx hb dX0_hedge_27 (by decide) ?_
    refine lv_icmp_ge (tgt := 159) hx hb dX0_hedge_29 (by decide) (fun c16 => ?_) (fun c16 => ?_)
    · have hF := if_p c16 hF
      refine lv_aload_n hx hb dX0_hedge_159 rfl (lv_at hl 0 rfl) ?_
      obtain ⟨v17, e18, hF⟩ := ob_s hF
      refine m_getR X hp e18 kX0 (Nat.le_of_ble_eq_true rfl) q485 dX0_hedge_160 ?_
      refine lv_iconst (v := 0) hx hb dX0_hedge_163 (by decide) ?_
      obtain ⟨v19, e20, hF⟩ := ob_s hF
      refine m_iaI X hp e20 dX0_hedge_164 ?_
      cases hF
      exact m_iret X hp dX0_hedge_165
    · have hF := if_n c16 hF
      refine lv_aload_n hx hb dX0_hedge_32 rfl (lv_at hl 0 rfl) ?_
      refine lv_iload_n hx hb dX0_hedge_33 rfl (lv_at hl 1 rfl) ?_
      refine lv_iconst (v := -1) hx hb dX0_hedge_34 (by decide) ?_
      obtain ⟨g21, hF⟩ := gd_s hF
      obtain ⟨v23, e22, hF⟩ := ob_s hF
      refine m_callV (As := [.int x1, .int (-1 : Int32)]) (rest := []) X hp (w_X0_hasGap e22) q1387 q1389 qs59 q132 q1390 2 rfl ds_X0_hasGap ⟨Nat.le_of_ble_eq_true rfl, Nat.le_of_ble_eq_true rfl⟩ 1 (T := TX0) (N := 30) rfl (by decide) g21 hl.1 rfl (Nat.le_of_ble_eq_true rfl) dX0_hedge_35 ⟨Nat.le_refl 0, Nat.le_refl 0⟩ (fun H locs hp => ?_)
      refine lv_if_ne (tgt := 44) hx hb dX0_hedge_38 (by decide) (fun c24 => ?_) (fun c24 => ?_)
      · have hF := if_n c24 hF
        refine lv_iconst (v := 0) hx hb dX0_hedge_44 (by decide) ?_
        refine lv_topi (fun v25 ev26 => ?_)
        have hF := nm_s hF ev26
        refine lv_istore_n (lv' := [(2, .int v25), (0, .ref x0), (1, .int x1)]) hx hb dX0_hedge_45 rfl hl (by decide) rfl (fun ls hl => ?_)
        exact b_X0_hedge_46 X _ ih _ _ _ _ _ _ _ _ hp (lv_sub hl [1, 2, 0] rfl) hF
      · have hF := if_p c24 hF
        refine lv_goto (tgt := 153) hx hb dX0_hedge_41 (by decide) ?_
        exact b_X0_hedge_153 X _ ih _ _ _ _ _ _ hp (lv_sub hl [0, 1] rfl) hF
def fb_X0_hedge_2 (S : mSh) : Nat → mMm → Nat → Int32 → Option (Int32 × mMm)
  | 0, _, _, _ => none
  | t + 1, M, x0, x1 => ob (rR S M x0 1 25) fun v3 => ob (aN S v3 100) fun v5 => (if v5 ≤ x1 then nm ((0 : Int32)) fun v8 => (fb_X0_hedge_26 S FU M x0 v8) else ob (rR S M x0 1 25) fun v10 => ob (wA S M v10 100 x1 (.int x1)) fun M12 => nm (x1 + (1 : Int32)) fun v14 => (fb_X0_hedge_2 S t M12 x0 v14))
theorem b_X0_hedge_2 {r : Int32} {M' : mMm} (X : mCx D n0 P p m c cX0_hedge 4 s args yX0_hedge.cls meth (some .int)) : ∀ t : Nat, ∀ (M : mMm) (x0 : Nat) (x1 : Int32) (H : Heap) (locs : List Loc) (ls : Array Slot), mHp D n0 S M n s H locs → lv_has ls 4 [(0, .ref x0), (1, .int x1)] → fb_X0_hedge_2 S t M x0 x1 = some (r, M') → W p l e Rm_X0_hedge s m args below meth c H locs 0 0 (MQ below (mQ D n0 (some (.int r)) S M' n) args s 0 0 (mA n0)) (F0 m 2 ls []) := by
  have hx := X.1.1
  have hb := X.1.2.1
  have hown := X.1.2.2.2.1
  have hts := X.1.2.2.2.2
  intro t
  induction t with
  | zero =>
    intro M x0 x1 H locs ls hp hl hF
    have hF : none = some (r, M') := hF
    cases hF
  | succ t ih =>
    intro M x0 x1 H locs ls hp hl hF
    rw [fb_X0_hedge_2] at hF
    refine lv_iload_n hx hb dX0_hedge_2 rfl (lv_at hl 1 rfl) ?_
    refine lv_aload_n hx hb dX0_hedge_3 rfl (lv_at hl 0 rfl) ?_
    obtain ⟨v3, e4, hF⟩ := ob_s hF
    refine m_getR X hp e4 kX0 (Nat.le_of_ble_eq_true rfl) q485 dX0_hedge_4 ?_
    obtain ⟨v5, e6, hF⟩ := ob_s hF
    refine m_aln 100 X hp e6 rfl (by decide) dX0_hedge_7 ?_
    refine lv_icmp_ge (tgt := 24) hx hb dX0_hedge_8 (by decide) (fun c7 => ?_) (fun c7 => ?_)
    · have hF := if_p c7 hF
      refine lv_iconst (v := 0) hx hb dX0_hedge_24 (by decide) ?_
      refine lv_topi (fun v8 ev9 => ?_)
      have hF := nm_s hF ev9
      refine lv_istore_n (lv' := [(1, .int v8), (0, .ref x0)]) hx hb dX0_hedge_25 rfl hl (by decide) rfl (fun ls hl => ?_)
      exact b_X0_hedge_26 X _ _ _ _ _ _ _ hp (lv_sub hl [1, 0] rfl) hF
    · have hF := if_n c7 hF
      refine lv_aload_n hx hb dX0_hedge_11 rfl (lv_at hl 0 rfl) ?_
      obtain ⟨v10, e11, hF⟩ := ob_s hF
      refine m_getR X hp e11 kX0 (Nat.le_of_ble_eq_true rfl) q485 dX0_hedge_12 ?_
      refine lv_iload_n hx hb dX0_hedge_15 rfl (lv_at hl 1 rfl) ?_
      refine lv_iload_n hx hb dX0_hedge_16 rfl (lv_at hl 1 rfl) ?_
      obtain ⟨M12, e13, hF⟩ := ob_s hF
      refine m_iaW X hp e13 dX0_hedge_17 (fun H locs hp => ?_)
      obtain ⟨v14, ev15⟩ : ∃ y : Int32, y = x1 + (1 : Int32) := ⟨_, rfl⟩
      have hF := nm_s hF ev15
      refine lv_iinc (v := v14) (lv' := [(1, .int v14), (0, .ref x0)]) hx hb dX0_hedge_18 hl (k := 1) rfl (by rw [ev15]; rfl) (by decide) rfl (fun ls hl => ?_)
      refine lv_goto (tgt := 2) hx hb dX0_hedge_21 (by decide) ?_
      exact ih _ _ _ _ _ _ hp (lv_sub hl [1, 0] rfl) hF
def f_X0_hedge (S : mSh) (M : mMm) (x0 : Nat) : Option (Int32 × mMm) := nm ((0 : Int32)) fun v1 => (fb_X0_hedge_2 S FU M x0 v1)
theorem w_X0_hedge {x0 : Nat} {r : Int32} {M' : mMm} (hF : f_X0_hedge S M x0 = some (r, M')) : mCt l D n0 P yX0_hedge cX0_hedge 4 (some .int) 2 44 0 0 [.ref x0] S M n (some (.int r)) S M' n := by
  refine m_ofW (by decide) (Nat.le_of_ble_eq_true rfl) (fun p e s m below meth c X hnm hp ls hl => ?_)
  have hx := X.1.1
  have hb := X.1.2.1
  have hown := X.1.2.2.2.1
  have hts := X.1.2.2.2.2
  have hl : lv_has ls 4 [(0, .ref x0)] := hl
  unfold f_X0_hedge at hF
  refine lv_iconst (v := 0) hx hb dX0_hedge_0 (by decide) ?_
  refine lv_topi (fun v1 ev2 => ?_)
  have hF := nm_s hF ev2
  refine lv_istore_n (lv' := [(1, .int v1), (0, .ref x0)]) hx hb dX0_hedge_1 rfl hl (by decide) rfl (fun ls hl => ?_)
  exact b_X0_hedge_2 X _ _ _ _ _ _ _ hp (lv_sub hl [1, 0] rfl) hF
end
section
variable {l : Launch} {D : va_G} {n0 : Nat} {P : mP} {S : mSh} {M : mMm} {n : Nat} {p : Program} {e : Env} {s : State} {m : MethodId} {args : Array Value} {below : List Frame} {meth : Method} {c : Code}
abbrev Rm_X0_hooks : Room := { frames := 1, cells := 0, slots := 0, locals := 22 }
def fb_X0_hooks_93 (S : mSh) (k44 : mMm → Nat → Int32 → Int32 → Option (Int32 × mMm)) (M : mMm) (x0 : Nat) (x1 : Int32) (x3 : Int32) (y0 : Int64) (y1 : Int32) (y2 : Nat) : Option (Int32 × mMm) := ob (wA S M y2 103 y1 (.long y0)) fun M29 => nm (x3 + (1 : Int32)) fun v31 => (k44 M29 x0 x1 v31)
theorem b_X0_hooks_93 {r : Int32} {M' : mMm} (X : mCx D n0 P p m c cX0_hooks 4 s args yX0_hooks.cls meth (some .int)) (k44 : mMm → Nat → Int32 → Int32 → Option (Int32 × mMm)) (hk44 : ∀ (M : mMm) (x0 : Nat) (x1 : Int32) (x3 : Int32) (H : Heap) (locs : List Loc) (ls : Array Slot), mHp D n0 S M n s H locs → lv_has ls 4 [(0, .ref x0), (1, .int x1), (3, .int x3)] → k44 M x0 x1 x3 = some (r, M') → W p l e Rm_X0_hooks s m args below meth c H locs 0 0 (MQ below (mQ D n0 (some (.int r)) S M' n) args s 0 0 (mA n0)) (F0 m 44 ls [])) : ∀ (M : mMm) (x0 : Nat) (x1 : Int32) (x3 : Int32) (y0 : Int64) (y1 : Int32) (y2 : Nat) (H : Heap) (locs : List Loc) (ls : Array Slot), mHp D n0 S M n s H locs → lv_has ls 4 [(0, .ref x0), (1, .int x1), (3, .int x3)] → fb_X0_hooks_93 S k44 M x0 x1 x3 y0 y1 y2 = some (r, M') → W p l e Rm_X0_hooks s m args below meth c H locs 0 0 (MQ below (mQ D n0 (some (.int r)) S M' n) args s 0 0 (mA n0)) (F0 m 93 ls [.long y0, .int y1, .ref y2]) := by
  have hx := X.1.1
  have hb := X.1.2.1
  have hown := X.1.2.2.2.1
  have hts := X.1.2.2.2.2
  intro M x0 x1 x3 y0 y1 y2 H locs ls hp hl hF
  unfold fb_X0_hooks_93 at hF
  obtain ⟨M29, e30, hF⟩ := ob_s hF
  refine m_laW X hp e30 dX0_hooks_93 (fun H locs hp => ?_)
  obtain ⟨v31, ev32⟩ : ∃ y : Int32, y = x3 + (1 : Int32) := ⟨_, rfl⟩
  have hF := nm_s hF ev32
  refine lv_iinc (v := v31) (lv' := [(3, .int v31), (0, .ref x0), (1, .int x1)]) hx hb dX0_hooks_94 hl (k := 2) rfl (by rw [ev32]; rfl) (by decide) rfl (fun ls hl => ?_)
  refine lv_goto (tgt := 44) hx hb dX0_hooks_97 (by decide) ?_
  exact hk44 _ _ _ _ _ _ _ hp (lv_sub hl [1, 2, 0] rfl) hF
def fb_X0_hooks_44 (S : mSh) : Nat → mMm → Nat → Int32 → Int32 → Option (Int32 × mMm)
  | 0, _, _, _, _ => none
  | t + 1, M, x0, x1, x3 => (if x1 < x3 then ob (rR S M x0 1 20) fun v12 => ob (aL S M v12 103 x1) fun v14 => some (v14.toInt32, M) else ob (rR S M x0 1 20) fun v16 => (if (3 : Int32) ≤ x3 then ob (rR S M x0 1 20) fun v19 => ob (aL S M v19 103 (x3 - (1 : Int32))) fun v21 => ob (rR S M x0 1 20) fun v23 => ob (aL S M v23 103 (x3 - (3 : Int32))) fun v25 => (fb_X0_hooks_93 S (fb_X0_hooks_44 S t) M x0 x1 x3 ((((2 : Int64) * v21) + v25) - (((2 : Int64) * v21) + v25) / (1000000007 : Int64) * (1000000007 : Int64)) x3 v16) else ob (f_J4_max (1 : Int32) x3) fun v28 => (fb_X0_hooks_93 S (fb_X0_hooks_44 S t) M x0 x1 x3 v28.toInt64 x3 v16)))
theorem b_X0_hooks_44 {r : Int32} {M' : mMm} (X : mCx D n0 P p m c cX0_hooks 4 s args yX0_hooks.cls meth (some .int)) : ∀ t : Nat, ∀ (M : mMm) (x0 : Nat) (x1 : Int32) (x3 : Int32) (H : Heap) (locs : List Loc) (ls : Array Slot), mHp D n0 S M n s H locs → lv_has ls 4 [(0, .ref x0), (1, .int x1), (3, .int x3)] → fb_X0_hooks_44 S t M x0 x1 x3 = some (r, M') → W p l e Rm_X0_hooks s m args below meth c H locs 0 0 (MQ below (mQ D n0 (some (.int r)) S M' n) args s 0 0 (mA n0)) (F0 m 44 ls []) := by
  have hx := X.1.1
  have hb := X.1.2.1
  have hown := X.1.2.2.2.1
  have hts := X.1.2.2.2.2
  intro t
  induction t with
  | zero =>
    intro M x0 x1 x3 H locs ls hp hl hF
    have hF : none = some (r, M') := hF
    cases hF
  | succ t ih =>
    intro M x0 x1 x3 H locs ls hp hl hF
    rw [fb_X0_hooks_44] at hF
    refine lv_iload_n hx hb dX0_hooks_44 rfl (lv_at hl 2 rfl) ?_
    refine lv_iload_n hx hb dX0_hooks_45 rfl (lv_at hl 1 rfl) ?_
    refine lv_icmp_gt (tgt := 100) hx hb dX0_hooks_46 (by decide) (fun c11 => ?_) (fun c11 => ?_)
    · have hF := if_p c11 hF
      refine lv_aload_n hx hb dX0_hooks_100 rfl (lv_at hl 0 rfl) ?_
      obtain ⟨v12, e13, hF⟩ := ob_s hF
      refine m_getR X hp e13 kX0 (Nat.le_of_ble_eq_true rfl) q480 dX0_hooks_101 ?_
      refine lv_iload_n hx hb dX0_hooks_104 rfl (lv_at hl 1 rfl) ?_
      obtain ⟨v14, e15, hF⟩ := ob_s hF
      refine m_laL X hp e15 dX0_hooks_105 ?_
      refine lv_l2i hx hb dX0_hooks_106 rfl ?_
      cases hF
      exact m_iret X hp dX0_hooks_107
    · have hF := if_n c11 hF
      refine lv_aload_n hx hb dX0_hooks_49 rfl (lv_at hl 0 rfl) ?_
      obtain ⟨v16, e17, hF⟩ := ob_s hF
      refine m_getR X hp e17 kX0 (Nat.le_of_ble_eq_true rfl) q480 dX0_hooks_50 ?_
      refine lv_iload_n hx hb dX0_hooks_53 rfl (lv_at hl 2 rfl) ?_
      refine lv_iload_n hx hb dX0_hooks_54 rfl (lv_at hl 2 rfl) ?_
      refine lv_iconst (v := 3) hx hb dX0_hooks_55 (by decide) ?_
      refine lv_icmp_ge (tgt := 68) hx hb dX0_hooks_56 (by decide) (fun c18 => ?_) (fun c18 => ?_)
      · have hF := if_p c18 hF
        refine lv_ldc2 hx hb hown (hts _ q1349) dX0_hooks_68 ?_
        refine lv_aload_n hx hb dX0_hooks_71 rfl (lv_at hl 0 rfl) ?_
        obtain ⟨v19, e20, hF⟩ := ob_s hF
        refine m_getR X hp e20 kX0 (Nat.le_of_ble_eq_true rfl) q480 dX0_hooks_72 ?_
        refine lv_iload_n hx hb dX0_hooks_75 rfl (lv_at hl 2 rfl) ?_
        refine lv_iconst (v := 1) hx hb dX0_hooks_76 (by decide) ?_
        refine lv_isub hx hb dX0_hooks_77 ?_
        obtain ⟨v21, e22, hF⟩ := ob_s hF
        refine m_laL X hp e22 dX0_hooks_78 ?_
        refine lv_lmul hx hb dX0_hooks_79 ?_
        refine lv_aload_n hx hb dX0_hooks_80 rfl (lv_at hl 0 rfl) ?_
        obtain ⟨v23, e24, hF⟩ := ob_s hF
        refine m_getR X hp e24 kX0 (Nat.le_of_ble_eq_true rfl) q480 dX0_hooks_81 ?_
        refine lv_iload_n hx hb dX0_hooks_84 rfl (lv_at hl 2 rfl) ?_
        refine lv_iconst (v := 3) hx hb dX0_hooks_85 (by decide) ?_
        refine lv_isub hx hb dX0_hooks_86 ?_
        obtain ⟨v25, e26, hF⟩ := ob_s hF
        refine m_laL X hp e26 dX0_hooks_87 ?_
        refine lv_ladd hx hb dX0_hooks_88 ?_
        refine lv_ldc2 hx hb hown (hts _ q1350) dX0_hooks_89 ?_
        refine lv_lrem hx hb dX0_hooks_92 (by decide) ?_
        exact b_X0_hooks_93 X _ ih _ _ _ _ _ _ _ _ _ _ hp (lv_sub hl [0, 1, 2] rfl) hF
      · have hF := if_n c18 hF
        refine lv_iconst (v := 1) hx hb dX0_hooks_59 (by decide) ?_
        refine lv_iload_n hx hb dX0_hooks_60 rfl (lv_at hl 2 rfl) ?_
        obtain ⟨v28, e27, hF⟩ := ob_s hF
        refine m_callS (As := [.int (1 : Int32), .int x3]) (rest := [.int x3, .ref v16]) X hp (w_J4_max e27) q1170 q333 q141 q334 2 rfl ds_J4_max ⟨Nat.le_of_ble_eq_true rfl, Nat.le_of_ble_eq_true rfl⟩ hl.1 rfl (Nat.le_of_ble_eq_true rfl) dX0_hooks_61 ⟨Nat.le_refl 0, Nat.le_refl 0⟩ (fun H locs hp => ?_)
        refine lv_i2l hx hb dX0_hooks_64 rfl ?_
        refine lv_goto (tgt := 93) hx hb dX0_hooks_65 (by decide) ?_
        exact b_X0_hooks_93 X _ ih _ _ _ _ _ _ _ _ _ _ hp (lv_sub hl [0, 1, 2] rfl) hF
def f_X0_hooks (S : mSh) (M : mMm) (x0 : Nat) (x1 : Int32) (x2 : Int32) : Option (Int32 × mMm) := ob (f_X0_isIn x1 (0 : Int32) (40 : Int32)) fun v2 => (if v2 = 0 then some ((-1 : Int32), M) else ob (f_X0_isIn x2 (0 : Int32) (1 : Int32)) fun v5 => (if v5 = 0 then some ((-1 : Int32), M) else (if x2 = (1 : Int32) then (if (x1 - x1 / (3 : Int32) * (3 : Int32)) = 0 then some (((1 : Int32) <<< ((x1 / (3 : Int32)) &&& 31)), M) else some ((0 : Int32), M)) else nm ((0 : Int32)) fun v8 => (fb_X0_hooks_44 S FU M x0 x1 v8))))
theorem w_X0_hooks {x0 : Nat} {x1 : Int32} {x2 : Int32} {r : Int32} {M' : mMm} (hF : f_X0_hooks S M x0 x1 x2 = some (r, M')) : mCt l D n0 P yX0_hooks cX0_hooks 4 (some .int) 1 22 0 0 [.ref x0, .int x1, .int x2] S M n (some (.int r)) S M' n := by
  refine m_ofW (by decide) (Nat.le_of_ble_eq_true rfl) (fun p e s m below meth c X hnm hp ls hl => ?_)
  have hx := X.1.1
  have hb := X.1.2.1
  have hown := X.1.2.2.2.1
  have hts := X.1.2.2.2.2
  have hl : lv_has ls 4 [(0, .ref x0), (1, .int x1), (2, .int x2)] := hl
  unfold f_X0_hooks at hF
  refine lv_iload_n hx hb dX0_hooks_0 rfl (lv_at hl 1 rfl) ?_
  refine lv_iconst (v := 0) hx hb dX0_hooks_1 (by decide) ?_
  refine lv_bipush (v := 40) hx hb dX0_hooks_2 (by decide) ?_
  obtain ⟨v2, e1, hF⟩ := ob_s hF
  refine m_callS (As := [.int x1, .int (0 : Int32), .int (40 : Int32)]) (rest := []) X hp (w_X0_isIn e1) q565 q566 q132 q567 3 rfl ds_X0_isIn ⟨Nat.le_of_ble_eq_true rfl, Nat.le_of_ble_eq_true rfl⟩ hl.1 rfl (Nat.le_of_ble_eq_true rfl) dX0_hooks_4 ⟨Nat.le_refl 0, Nat.le_refl 0⟩ (fun H locs hp => ?_)
  refine lv_if_eq (tgt := 19) hx hb dX0_hooks_7 (by decide) (fun c3 => ?_) (fun c3 => ?_)
  · have hF := if_p c3 hF
    refine lv_iconst (v := -1) hx hb dX0_hooks_19 (by decide) ?_
    cases hF
    exact m_iret X hp dX0_hooks_20
  · have hF := if_n c3 hF
    refine lv_iload_n hx hb dX0_hooks_10 rfl (lv_at hl 2 rfl) ?_
    refine lv_iconst (v := 0) hx hb dX0_hooks_11 (by decide) ?_
    refine lv_iconst (v := 1) hx hb dX0_hooks_12 (by decide) ?_
    obtain ⟨v5, e4, hF⟩ := ob_s hF
    refine m_callS (As := [.int x2, .int (0 : Int32), .int (1 : Int32)]) (rest := []) X hp (w_X0_isIn e4) q565 q566 q132 q567 3 rfl ds_X0_isIn ⟨Nat.le_of_ble_eq_true rfl, Nat.le_of_ble_eq_true rfl⟩ hl.1 rfl (Nat.le_of_ble_eq_true rfl) dX0_hooks_13 ⟨Nat.le_refl 0, Nat.le_refl 0⟩ (fun H locs hp => ?_)
    refine lv_if_ne (tgt := 21) hx hb dX0_hooks_16 (by decide) (fun c6 => ?_) (fun c6 => ?_)
    · have hF := if_n c6 hF
      refine lv_iload_n hx hb dX0_hooks_21 rfl (lv_at hl 2 rfl) ?_
      refine lv_iconst (v := 1) hx hb dX0_hooks_22 (by decide) ?_
      refine lv_icmp_ne (tgt := 42) hx hb dX0_hooks_23 (by decide) (fun c7 => ?_) (fun c7 => ?_)
      · have hF := if_n c7 hF
        refine lv_iconst (v := 0) hx hb dX0_hooks_42 (by decide) ?_
        refine lv_topi (fun v8 ev9 => ?_)
        have hF := nm_s hF ev9
        refine lv_istore_n (lv' := [(3, .int v8), (0, .ref x0), (1, .int x1), (2, .int x2)]) hx hb dX0_hooks_43 rfl hl (by decide) rfl (fun ls hl => ?_)
        exact b_X0_hooks_44 X _ _ _ _ _ _ _ _ hp (lv_sub hl [1, 2, 0] rfl) hF
      · have hF := if_p c7 hF
        refine lv_iload_n hx hb dX0_hooks_26 rfl (lv_at hl 1 rfl) ?_
        refine lv_iconst (v := 3) hx hb dX0_hooks_27 (by decide) ?_
        refine lv_irem hx hb dX0_hooks_28 (by decide) ?_
        refine lv_if_ne (tgt := 40) hx hb dX0_hooks_29 (by decide) (fun c10 => ?_) (fun c10 => ?_)
        · have hF := if_n c10 hF
          refine lv_iconst (v := 0) hx hb dX0_hooks_40 (by decide) ?_
          cases hF
          exact m_iret X hp dX0_hooks_41
        · have hF := if_p c10 hF
          refine lv_iconst (v := 1) hx hb dX0_hooks_32 (by decide) ?_
          refine lv_iload_n hx hb dX0_hooks_33 rfl (lv_at hl 1 rfl) ?_
          refine lv_iconst (v := 3) hx hb dX0_hooks_34 (by decide) ?_
          refine lv_idiv hx hb dX0_hooks_35 (by decide) ?_
          refine lv_ishl hx hb dX0_hooks_36 ?_
          refine lv_goto (tgt := 41) hx hb dX0_hooks_37 (by decide) ?_
          cases hF
          exact m_iret X hp dX0_hooks_41
    · have hF := if_p c6 hF
      refine lv_iconst (v := -1) hx hb dX0_hooks_19 (by decide) ?_
      cases hF
      exact m_iret X hp dX0_hooks_20
end
section
variable {l : Launch} {D : va_G} {n0 : Nat} {P : mP} {S : mSh} {M : mMm} {n : Nat} {p : Program} {e : Env} {s : State} {m : MethodId} {args : Array Value} {below : List Frame} {meth : Method} {c : Code}
abbrev Rm_X3_takes : Room := { frames := 0, cells := 0, slots := 0, locals := 0 }
def fb_X3_takes_20 (S : mSh) (k10 : mMm → Nat → Nat → Int32 → Option mMm) : Nat → mMm → Nat → Nat → Int32 → Int32 → Option mMm
  | 0, _, _, _, _, _ => none
  | t + 1, M, x0, x1, x2, x3 => (if (2 : Int32) ≤ x3 then nm (x2 + (1 : Int32)) fun v13 => (k10 M x0 x1 v13) else ob (rR S M x0 4 0) fun v15 => ob (aR S M v15 108 x2) fun v17 => ob (rR S M x1 4 0) fun v19 => ob (aR S M v19 108 x2) fun v21 => ob (aI S M v21 100 x3) fun v23 => ob (wA S M v17 100 x3 (.int v23)) fun M25 => nm (x3 + (1 : Int32)) fun v27 => (fb_X3_takes_20 S k10 t M25 x0 x1 x2 v27))
theorem b_X3_takes_20 {M' : mMm} (X : mCx D n0 P p m c cX3_takes 4 s args yX3_takes.cls meth none) (k10 : mMm → Nat → Nat → Int32 → Option mMm) (hk10 : ∀ (M : mMm) (x0 : Nat) (x1 : Nat) (x2 : Int32) (H : Heap) (locs : List Loc) (ls : Array Slot), mHp D n0 S M n s H locs → lv_has ls 4 [(0, .ref x0), (1, .ref x1), (2, .int x2)] → k10 M x0 x1 x2 = some M' → W p l e Rm_X3_takes s m args below meth c H locs 0 0 (MQ below (mQ D n0 none S M' n) args s 0 0 (mA n0)) (F0 m 10 ls [])) : ∀ t : Nat, ∀ (M : mMm) (x0 : Nat) (x1 : Nat) (x2 : Int32) (x3 : Int32) (H : Heap) (locs : List Loc) (ls : Array Slot), mHp D n0 S M n s H locs → lv_has ls 4 [(0, .ref x0), (1, .ref x1), (2, .int x2), (3, .int x3)] → fb_X3_takes_20 S k10 t M x0 x1 x2 x3 = some M' → W p l e Rm_X3_takes s m args below meth c H locs 0 0 (MQ below (mQ D n0 none S M' n) args s 0 0 (mA n0)) (F0 m 20 ls []) := by
  have hx := X.1.1
  have hb := X.1.2.1
  have hown := X.1.2.2.2.1
  have hts := X.1.2.2.2.2
  intro t
  induction t with
  | zero =>
    intro M x0 x1 x2 x3 H locs ls hp hl hF
    have hF : none = some M' := hF
    cases hF
  | succ t ih =>
    intro M x0 x1 x2 x3 H locs ls hp hl hF
    rw [fb_X3_takes_20] at hF
    refine lv_iload_n hx hb dX3_takes_20 rfl (lv_at hl 3 rfl) ?_
    refine lv_iconst (v := 2) hx hb dX3_takes_21 (by decide) ?_
    refine lv_icmp_ge (tgt := 47) hx hb dX3_takes_22 (by decide) (fun c12 => ?_) (fun c12 => ?_)
    · have hF := if_p c12 hF
      obtain ⟨v13, ev14⟩ : ∃ y : Int32, y = x2 + (1 : Int32) := ⟨_, rfl⟩
      have hF := nm_s hF ev14
      refine lv_iinc (v := v13) (lv' := [(2, .int v13), (0, .ref x0), (1, .ref x1), (3, .int x3)]) hx hb dX3_takes_47 hl (k := 2) rfl (by rw [ev14]; rfl) (by decide) rfl (fun ls hl => ?_)
      refine lv_goto (tgt := 10) hx hb dX3_takes_50 (by decide) ?_
      exact hk10 _ _ _ _ _ _ _ hp (lv_sub hl [1, 2, 0] rfl) hF
    · have hF := if_n c12 hF
      refine lv_aload_n hx hb dX3_takes_25 rfl (lv_at hl 0 rfl) ?_
      obtain ⟨v15, e16, hF⟩ := ob_s hF
      refine m_getR X hp e16 kX3 (Nat.le_of_ble_eq_true rfl) q212 dX3_takes_26 ?_
      refine lv_iload_n hx hb dX3_takes_29 rfl (lv_at hl 2 rfl) ?_
      obtain ⟨v17, e18, hF⟩ := ob_s hF
      refine m_aaR 108 X hp e18 rfl (by decide) rfl dX3_takes_30 ?_
      refine lv_iload_n hx hb dX3_takes_31 rfl (lv_at hl 3 rfl) ?_
      refine lv_aload_n hx hb dX3_takes_32 rfl (lv_at hl 1 rfl) ?_
      obtain ⟨v19, e20, hF⟩ := ob_s hF
      refine m_getR X hp e20 kX3 (Nat.le_of_ble_eq_true rfl) q212 dX3_takes_33 ?_
      refine lv_iload_n hx hb dX3_takes_36 rfl (lv_at hl 2 rfl) ?_
      obtain ⟨v21, e22, hF⟩ := ob_s hF
      refine m_aaR 108 X hp e22 rfl (by decide) rfl dX3_takes_37 ?_
      refine lv_iload_n hx hb dX3_takes_38 rfl (lv_at hl 3 rfl) ?_
      obtain ⟨v23, e24, hF⟩ := ob_s hF
      refine m_iaI X hp e24 dX3_takes_39 ?_
      obtain ⟨M25, e26, hF⟩ := ob_s hF
      refine m_iaW X hp e26 dX3_takes_40 (fun H locs hp => ?_)
      obtain ⟨v27, ev28⟩ : ∃ y : Int32, y = x3 + (1 : Int32) := ⟨_, rfl⟩
      have hF := nm_s hF ev28
      refine lv_iinc (v := v27) (lv' := [(3, .int v27), (0, .ref x0), (1, .ref x1), (2, .int x2)]) hx hb dX3_takes_41 hl (k := 3) rfl (by rw [ev28]; rfl) (by decide) rfl (fun ls hl => ?_)
      refine lv_goto (tgt := 20) hx hb dX3_takes_44 (by decide) ?_
      exact ih _ _ _ _ _ _ _ _ hp (lv_sub hl [1, 2, 3, 0] rfl) hF
def fb_X3_takes_10 (S : mSh) : Nat → mMm → Nat → Nat → Int32 → Option mMm
  | 0, _, _, _, _ => none
  | t + 1, M, x0, x1, x2 => ob (rI S M x0 4 1) fun v7 => (if v7 ≤ x2 then some M else nm ((0 : Int32)) fun v10 => (fb_X3_takes_20 S (fb_X3_takes_10 S t) FU M x0 x1 x2 v10))
theorem b_X3_takes_10 {M' : mMm} (X : mCx D n0 P p m c cX3_takes 4 s args yX3_takes.cls meth none) : ∀ t : Nat, ∀ (M : mMm) (x0 : Nat) (x1 : Nat) (x2 : Int32) (H : Heap) (locs : List Loc) (ls : Array Slot), mHp D n0 S M n s H locs → lv_has ls 4 [(0, .ref x0), (1, .ref x1), (2, .int x2)] → fb_X3_takes_10 S t M x0 x1 x2 = some M' → W p l e Rm_X3_takes s m args below meth c H locs 0 0 (MQ below (mQ D n0 none S M' n) args s 0 0 (mA n0)) (F0 m 10 ls []) := by
  have hx := X.1.1
  have hb := X.1.2.1
  have hown := X.1.2.2.2.1
  have hts := X.1.2.2.2.2
  intro t
  induction t with
  | zero =>
    intro M x0 x1 x2 H locs ls hp hl hF
    have hF : none = some M' := hF
    cases hF
  | succ t ih =>
    intro M x0 x1 x2 H locs ls hp hl hF
    rw [fb_X3_takes_10] at hF
    refine lv_iload_n hx hb dX3_takes_10 rfl (lv_at hl 2 rfl) ?_
    refine lv_aload_n hx hb dX3_takes_11 rfl (lv_at hl 0 rfl) ?_
    obtain ⟨v7, e8, hF⟩ := ob_s hF
    refine m_getI X hp e8 kX3 (Nat.le_of_ble_eq_true rfl) q213 dX3_takes_12 ?_
    refine lv_icmp_ge (tgt := 53) hx hb dX3_takes_15 (by decide) (fun c9 => ?_) (fun c9 => ?_)
    · have hF := if_p c9 hF
      cases hF
      exact m_vret X hp dX3_takes_53
    · have hF := if_n c9 hF
      refine lv_iconst (v := 0) hx hb dX3_takes_18 (by decide) ?_
      refine lv_topi (fun v10 ev11 => ?_)
      have hF := nm_s hF ev11
      refine lv_istore_n (lv' := [(3, .int v10), (0, .ref x0), (1, .ref x1), (2, .int x2)]) hx hb dX3_takes_19 rfl hl (by decide) rfl (fun ls hl => ?_)
      exact b_X3_takes_20 X _ ih _ _ _ _ _ _ _ _ _ hp (lv_sub hl [1, 2, 3, 0] rfl) hF
def f_X3_takes (S : mSh) (M : mMm) (x0 : Nat) (x1 : Nat) : Option mMm := ob (rI S M x1 4 1) fun v1 => ob (wF S M x0 4 1 (.int v1)) fun M3 => nm ((0 : Int32)) fun v5 => (fb_X3_takes_10 S FU M3 x0 x1 v5)
theorem w_X3_takes {x0 : Nat} {x1 : Nat} {M' : mMm} (hF : f_X3_takes S M x0 x1 = some M') : mCt l D n0 P yX3_takes cX3_takes 4 none 0 0 0 0 [.ref x0, .ref x1] S M n none S M' n := by
  refine m_ofW (by decide) (Nat.le_of_ble_eq_true rfl) (fun p e s m below meth c X hnm hp ls hl => ?_)
  have hx := X.1.1
  have hb := X.1.2.1
  have hown := X.1.2.2.2.1
  have hts := X.1.2.2.2.2
  have hl : lv_has ls 4 [(0, .ref x0), (1, .ref x1)] := hl
  unfold f_X3_takes at hF
  refine lv_aload_n hx hb dX3_takes_0 rfl (lv_at hl 0 rfl) ?_
  refine lv_aload_n hx hb dX3_takes_1 rfl (lv_at hl 1 rfl) ?_
  obtain ⟨v1, e2, hF⟩ := ob_s hF
  refine m_getI X hp e2 kX3 (Nat.le_of_ble_eq_true rfl) q213 dX3_takes_2 ?_
  obtain ⟨M3, e4, hF⟩ := ob_s hF
  refine m_putW X hp e4 kX3 (Nat.le_of_ble_eq_true rfl) q213 rfl rfl rfl dX3_takes_5 (fun H locs hp => ?_)
  refine lv_iconst (v := 0) hx hb dX3_takes_8 (by decide) ?_
  refine lv_topi (fun v5 ev6 => ?_)
  have hF := nm_s hF ev6
  refine lv_istore_n (lv' := [(2, .int v5), (0, .ref x0), (1, .ref x1)]) hx hb dX3_takes_9 rfl hl (by decide) rfl (fun ls hl => ?_)
  exact b_X3_takes_10 X _ _ _ _ _ _ _ _ hp (lv_sub hl [1, 2, 0] rfl) hF
end
section
variable {l : Launch} {D : va_G} {n0 : Nat} {P : mP} {S : mSh} {M : mMm} {n : Nat} {p : Program} {e : Env} {s : State} {m : MethodId} {args : Array Value} {below : List Frame} {meth : Method} {c : Code}
abbrev Rm_X1_takes : Room := { frames := 6, cells := 0, slots := 0, locals := 125 }
def fb_X1_takes_17 (S : mSh) (k7 : mMm → Nat → Nat → Int32 → Option mMm) : Nat → mMm → Nat → Nat → Int32 → Int32 → Option mMm
  | 0, _, _, _, _, _ => none
  | t + 1, M, x0, x1, x2, x3 => (if (4 : Int32) ≤ x3 then nm (x2 + (1 : Int32)) fun v53 => (k7 M x0 x1 v53) else ob (rR S M x0 2 3) fun v55 => ob (aR S M v55 108 x2) fun v57 => ob (rR S M x1 2 3) fun v59 => ob (aR S M v59 108 x2) fun v61 => ob (aI S M v61 100 x3) fun v63 => ob (wA S M v57 100 x3 (.int v63)) fun M65 => nm (x3 + (1 : Int32)) fun v67 => (fb_X1_takes_17 S k7 t M65 x0 x1 x2 v67))
theorem b_X1_takes_17 {M' : mMm} (X : mCx D n0 P p m c cX1_takes 4 s args yX1_takes.cls meth none) (k7 : mMm → Nat → Nat → Int32 → Option mMm) (hk7 : ∀ (M : mMm) (x0 : Nat) (x1 : Nat) (x2 : Int32) (H : Heap) (locs : List Loc) (ls : Array Slot), mHp D n0 S M n s H locs → lv_has ls 4 [(0, .ref x0), (1, .ref x1), (2, .int x2)] → k7 M x0 x1 x2 = some M' → W p l e Rm_X1_takes s m args below meth c H locs 0 0 (MQ below (mQ D n0 none S M' n) args s 0 0 (mA n0)) (F0 m 7 ls [])) : ∀ t : Nat, ∀ (M : mMm) (x0 : Nat) (x1 : Nat) (x2 : Int32) (x3 : Int32) (H : Heap) (locs : List Loc) (ls : Array Slot), mHp D n0 S M n s H locs → lv_has ls 4 [(0, .ref x0), (1, .ref x1), (2, .int x2), (3, .int x3)] → fb_X1_takes_17 S k7 t M x0 x1 x2 x3 = some M' → W p l e Rm_X1_takes s m args below meth c H locs 0 0 (MQ below (mQ D n0 none S M' n) args s 0 0 (mA n0)) (F0 m 17 ls []) := by
  have hx := X.1.1
  have hb := X.1.2.1
  have hown := X.1.2.2.2.1
  have hts := X.1.2.2.2.2
  intro t
  induction t with
  | zero =>
    intro M x0 x1 x2 x3 H locs ls hp hl hF
    have hF : none = some M' := hF
    cases hF
  | succ t ih =>
    intro M x0 x1 x2 x3 H locs ls hp hl hF
    rw [fb_X1_takes_17] at hF
    refine lv_iload_n hx hb dX1_takes_17 rfl (lv_at hl 3 rfl) ?_
    refine lv_iconst (v := 4) hx hb dX1_takes_18 (by decide) ?_
    refine lv_icmp_ge (tgt := 44) hx hb dX1_takes_19 (by decide) (fun c52 => ?_) (fun c52 => ?_)
    · have hF := if_p c52 hF
      obtain ⟨v53, ev54⟩ : ∃ y : Int32, y = x2 + (1 : Int32) := ⟨_, rfl⟩
      have hF := nm_s hF ev54
      refine lv_iinc (v := v53) (lv' := [(2, .int v53), (0, .ref x0), (1, .ref x1), (3, .int x3)]) hx hb dX1_takes_44 hl (k := 2) rfl (by rw [ev54]; rfl) (by decide) rfl (fun ls hl => ?_)
      refine lv_goto (tgt := 7) hx hb dX1_takes_47 (by decide) ?_
      exact hk7 _ _ _ _ _ _ _ hp (lv_sub hl [1, 2, 0] rfl) hF
    · have hF := if_n c52 hF
      refine lv_aload_n hx hb dX1_takes_22 rfl (lv_at hl 0 rfl) ?_
      obtain ⟨v55, e56, hF⟩ := ob_s hF
      refine m_getR X hp e56 kX1 (Nat.le_of_ble_eq_true rfl) q381 dX1_takes_23 ?_
      refine lv_iload_n hx hb dX1_takes_26 rfl (lv_at hl 2 rfl) ?_
      obtain ⟨v57, e58, hF⟩ := ob_s hF
      refine m_aaR 108 X hp e58 rfl (by decide) rfl dX1_takes_27 ?_
      refine lv_iload_n hx hb dX1_takes_28 rfl (lv_at hl 3 rfl) ?_
      refine lv_aload_n hx hb dX1_takes_29 rfl (lv_at hl 1 rfl) ?_
      obtain ⟨v59, e60, hF⟩ := ob_s hF
      refine m_getR X hp e60 kX1 (Nat.le_of_ble_eq_true rfl) q381 dX1_takes_30 ?_
      refine lv_iload_n hx hb dX1_takes_33 rfl (lv_at hl 2 rfl) ?_
      obtain ⟨v61, e62, hF⟩ := ob_s hF
      refine m_aaR 108 X hp e62 rfl (by decide) rfl dX1_takes_34 ?_
      refine lv_iload_n hx hb dX1_takes_35 rfl (lv_at hl 3 rfl) ?_
      obtain ⟨v63, e64, hF⟩ := ob_s hF
      refine m_iaI X hp e64 dX1_takes_36 ?_
      obtain ⟨M65, e66, hF⟩ := ob_s hF
      refine m_iaW X hp e66 dX1_takes_37 (fun H locs hp => ?_)
      obtain ⟨v67, ev68⟩ : ∃ y : Int32, y = x3 + (1 : Int32) := ⟨_, rfl⟩
      have hF := nm_s hF ev68
      refine lv_iinc (v := v67) (lv' := [(3, .int v67), (0, .ref x0), (1, .ref x1), (2, .int x2)]) hx hb dX1_takes_38 hl (k := 3) rfl (by rw [ev68]; rfl) (by decide) rfl (fun ls hl => ?_)
      refine lv_goto (tgt := 17) hx hb dX1_takes_41 (by decide) ?_
      exact ih _ _ _ _ _ _ _ _ hp (lv_sub hl [1, 2, 3, 0] rfl) hF
def fb_X1_takes_7 (S : mSh) : Nat → mMm → Nat → Nat → Int32 → Option mMm
  | 0, _, _, _, _ => none
  | t + 1, M, x0, x1, x2 => ob (rI S M x0 2 14) fun v7 => (if v7 ≤ x2 then ob (rR S M x0 2 4) fun v10 => ob (aR S M v10 105 (0 : Int32)) fun v12 => ob (rR S M x1 2 4) fun v14 => ob (aR S M v14 105 (0 : Int32)) fun v16 => gd ((S v12).1 = 4) (ob (f_X3_takes S M v12 v16) fun M21 => ob (rR S M21 x0 2 4) fun v22 => ob (aR S M21 v22 105 (1 : Int32)) fun v24 => ob (rR S M21 x1 2 4) fun v26 => ob (aR S M21 v26 105 (1 : Int32)) fun v28 => gd ((S v24).1 = 4) (ob (f_X3_takes S M21 v24 v28) fun M33 => ob (rR S M33 x0 2 5) fun v34 => ob (rR S M33 x1 2 5) fun v36 => gd ((S v34).1 = 4) (ob (f_X3_takes S M33 v34 v36) fun M41 => ob (rR S M41 x0 2 6) fun v42 => ob (rR S M41 x1 2 6) fun v44 => gd ((S v42).1 = 4) (ob (f_X3_takes S M41 v42 v44) fun M49 => some M49)))) else nm ((0 : Int32)) fun v50 => (fb_X1_takes_17 S (fb_X1_takes_7 S t) FU M x0 x1 x2 v50))
theorem b_X1_takes_7 {M' : mMm} (X : mCx D n0 P p m c cX1_takes 4 s args yX1_takes.cls meth none) : ∀ t : Nat, ∀ (M : mMm) (x0 : Nat) (x1 : Nat) (x2 : Int32) (H : Heap) (locs : List Loc) (ls : Array Slot), mHp D n0 S M n s H locs → lv_has ls 4 [(0, .ref x0), (1, .ref x1), (2, .int x2)] → fb_X1_takes_7 S t M x0 x1 x2 = some M' → W p l e Rm_X1_takes s m args below meth c H locs 0 0 (MQ below (mQ D n0 none S M' n) args s 0 0 (mA n0)) (F0 m 7 ls []) := by
  have hx := X.1.1
  have hb := X.1.2.1
  have hown := X.1.2.2.2.1
  have hts := X.1.2.2.2.2
  intro t
  induction t with
  | zero =>
    intro M x0 x1 x2 H locs ls hp hl hF
    have hF : none = some M' := hF
    cases hF
  | succ t ih =>
    intro M x0 x1 x2 H locs ls hp hl hF
    rw [fb_X1_takes_7] at hF
    refine lv_iload_n hx hb dX1_takes_7 rfl (lv_at hl 2 rfl) ?_
    refine lv_aload_n hx hb dX1_takes_8 rfl (lv_at hl 0 rfl) ?_
    obtain ⟨v7, e8, hF⟩ := ob_s hF
    refine m_getI X hp e8 kX1 (Nat.le_of_ble_eq_true rfl) q404 dX1_takes_9 ?_
    refine lv_icmp_ge (tgt := 50) hx hb dX1_takes_12 (by decide) (fun c9 => ?_) (fun c9 => ?_)
    · have hF := if_p c9 hF
      refine lv_aload_n hx hb dX1_takes_50 rfl (lv_at hl 0 rfl) ?_
      obtain ⟨v10, e11, hF⟩ := ob_s hF
      refine m_getR X hp e11 kX1 (Nat.le_of_ble_eq_true rfl) q383 dX1_takes_51 ?_
      refine lv_iconst (v := 0) hx hb dX1_takes_54 (by decide) ?_
      obtain ⟨v12, e13, hF⟩ := ob_s hF
      refine m_aaR 105 X hp e13 rfl (by decide) rfl dX1_takes_55 ?_
      refine lv_aload_n hx hb dX1_takes_56 rfl (lv_at hl 1 rfl) ?_
      obtain ⟨v14, e15, hF⟩ := ob_s hF
      refine m_getR X hp e15 kX1 (Nat.le_of_ble_eq_true rfl) q383 dX1_takes_57 ?_
      refine lv_iconst (v := 0) hx hb dX1_takes_60 (by decide) ?_
      obtain ⟨v16, e17, hF⟩ := ob_s hF
      refine m_aaR 105 X hp e17 rfl (by decide) rfl dX1_takes_61 ?_
      obtain ⟨g18, hF⟩ := gd_s hF
      obtain ⟨M21, e19, hF⟩ := ob_s hF
      refine m_callV (As := [.ref v16]) (rest := []) X hp (w_X3_takes e19) q1445 q1446 q1447 q135 q1448 1 rfl ds_X3_takes ⟨Nat.le_of_ble_eq_true rfl, Nat.le_of_ble_eq_true rfl⟩ 4 (T := TX3) (N := 2) rfl (by decide) g18 hl.1 rfl (Nat.le_of_ble_eq_true rfl) dX1_takes_62 ⟨Nat.le_refl 0, Nat.le_refl 0⟩ (fun H locs hp => ?_)
      refine lv_aload_n hx hb dX1_takes_65 rfl (lv_at hl 0 rfl) ?_
      obtain ⟨v22, e23, hF⟩ := ob_s hF
      refine m_getR X hp e23 kX1 (Nat.le_of_ble_eq_true rfl) q383 dX1_takes_66 ?_
      refine lv_iconst (v := 1) hx hb dX1_takes_69 (by decide) ?_
      obtain ⟨v24, e25, hF⟩ := ob_s hF
      refine m_aaR 105 X hp e25 rfl (by decide) rfl dX1_takes_70 ?_
      refine lv_aload_n hx hb dX1_takes_71 rfl (lv_at hl 1 rfl) ?_
      obtain ⟨v26, e27, hF⟩ := ob_s hF
      refine m_getR X hp e27 kX1 (Nat.le_of_ble_eq_true rfl) q383 dX1_takes_72 ?_
      refine lv_iconst (v := 1) hx hb dX1_takes_75 (by decide) ?_
      obtain ⟨v28, e29, hF⟩ := ob_s hF
      refine m_aaR 105 X hp e29 rfl (by decide) rfl dX1_takes_76 ?_
      obtain ⟨g30, hF⟩ := gd_s hF
      obtain ⟨M33, e31, hF⟩ := ob_s hF
      refine m_callV (As := [.ref v28]) (rest := []) X hp (w_X3_takes e31) q1445 q1446 q1447 q135 q1448 1 rfl ds_X3_takes ⟨Nat.le_of_ble_eq_true rfl, Nat.le_of_ble_eq_true rfl⟩ 4 (T := TX3) (N := 2) rfl (by decide) g30 hl.1 rfl (Nat.le_of_ble_eq_true rfl) dX1_takes_77 ⟨Nat.le_refl 0, Nat.le_refl 0⟩ (fun H locs hp => ?_)
      refine lv_aload_n hx hb dX1_takes_80 rfl (lv_at hl 0 rfl) ?_
      obtain ⟨v34, e35, hF⟩ := ob_s hF
      refine m_getR X hp e35 kX1 (Nat.le_of_ble_eq_true rfl) q385 dX1_takes_81 ?_
      refine lv_aload_n hx hb dX1_takes_84 rfl (lv_at hl 1 rfl) ?_
      obtain ⟨v36, e37, hF⟩ := ob_s hF
      refine m_getR X hp e37 kX1 (Nat.le_of_ble_eq_true rfl) q385 dX1_takes_85 ?_
      obtain ⟨g38, hF⟩ := gd_s hF
      obtain ⟨M41, e39, hF⟩ := ob_s hF
      refine m_callV (As := [.ref v36]) (rest := []) X hp (w_X3_takes e39) q1445 q1446 q1447 q135 q1448 1 rfl ds_X3_takes ⟨Nat.le_of_ble_eq_true rfl, Nat.le_of_ble_eq_true rfl⟩ 4 (T := TX3) (N := 2) rfl (by decide) g38 hl.1 rfl (Nat.le_of_ble_eq_true rfl) dX1_takes_88 ⟨Nat.le_refl 0, Nat.le_refl 0⟩ (fun H locs hp => ?_)
      refine lv_aload_n hx hb dX1_takes_91 rfl (lv_at hl 0 rfl) ?_
      obtain ⟨v42, e43, hF⟩ := ob_s hF
      refine m_getR X hp e43 kX1 (Nat.le_of_ble_eq_true rfl) q387 dX1_takes_92 ?_
      refine lv_aload_n hx hb dX1_takes_95 rfl (lv_at hl 1 rfl) ?_
      obtain ⟨v44, e45, hF⟩ := ob_s hF
      refine m_getR X hp e45 kX1 (Nat.le_of_ble_eq_true rfl) q387 dX1_takes_96 ?_
      obtain ⟨g46, hF⟩ := gd_s hF
      obtain ⟨M49, e47, hF⟩ := ob_s hF
      refine m_callV (As := [.ref v44]) (rest := []) X hp (w_X3_takes e47) q1445 q1446 q1447 q135 q1448 1 rfl ds_X3_takes ⟨Nat.le_of_ble_eq_true rfl, Nat.le_of_ble_eq_true rfl⟩ 4 (T := TX3) (N := 2) rfl (by decide) g46 hl.1 rfl (Nat.le_of_ble_eq_true rfl) dX1_takes_99 ⟨Nat.le_refl 0, Nat.le_refl 0⟩ (fun H locs hp => ?_)
      cases hF
      exact m_vret X hp dX1_takes_102
    · have hF := if_n c9 hF
      refine lv_iconst (v := 0) hx hb dX1_takes_15 (by decide) ?_
      refine lv_topi (fun v50 ev51 => ?_)
      have hF := nm_s hF ev51
      refine lv_istore_n (lv' := [(3, .int v50), (0, .ref x0), (1, .ref x1), (2, .int x2)]) hx hb dX1_takes_16 rfl hl (by decide) rfl (fun ls hl => ?_)
      exact b_X1_takes_17 X _ ih _ _ _ _ _ _ _ _ _ hp (lv_sub hl [1, 2, 3, 0] rfl) hF
def f_X1_takes (S : mSh) (M : mMm) (x0 : Nat) (x1 : Nat) : Option mMm := gd ((S x0).1 = 2) (ob (f_X1_thinks S M x0 x1) fun M4 => nm ((0 : Int32)) fun v5 => (fb_X1_takes_7 S FU M4 x0 x1 v5))
theorem w_X1_takes {x0 : Nat} {x1 : Nat} {M' : mMm} (hF : f_X1_takes S M x0 x1 = some M') : mCt l D n0 P yX1_takes cX1_takes 4 none 6 125 0 0 [.ref x0, .ref x1] S M n none S M' n := by
  refine m_ofW (by decide) (Nat.le_of_ble_eq_true rfl) (fun p e s m below meth c X hnm hp ls hl => ?_)
  have hx := X.1.1
  have hb := X.1.2.1
  have hown := X.1.2.2.2.1
  have hts := X.1.2.2.2.2
  have hl : lv_has ls 4 [(0, .ref x0), (1, .ref x1)] := hl
  unfold f_X1_takes at hF
  refine lv_aload_n hx hb dX1_takes_0 rfl (lv_at hl 0 rfl) ?_
  refine lv_aload_n hx hb dX1_takes_1 rfl (lv_at hl 1 rfl) ?_
  obtain ⟨g1, hF⟩ := gd_s hF
  obtain ⟨M4, e2, hF⟩ := ob_s hF
  refine m_callV (As := [.ref x1]) (rest := []) X hp (w_X1_thinks e2) q1444 q1210 q1211 q133 q1212 1 rfl ds_X1_thinks ⟨Nat.le_of_ble_eq_true rfl, Nat.le_of_ble_eq_true rfl⟩ 2 (T := TX1) (N := 19) rfl (by decide) g1 hl.1 rfl (Nat.le_of_ble_eq_true rfl) dX1_takes_2 ⟨Nat.le_refl 0, Nat.le_refl 0⟩ (fun H locs hp => ?_)
  refine lv_iconst (v := 0) hx hb dX1_takes_5 (by decide) ?_
  refine lv_topi (fun v5 ev6 => ?_)
  have hF := nm_s hF ev6
  refine lv_istore_n (lv' := [(2, .int v5), (0, .ref x0), (1, .ref x1)]) hx hb dX1_takes_6 rfl hl (by decide) rfl (fun ls hl => ?_)
  exact b_X1_takes_7 X _ _ _ _ _ _ _ _ hp (lv_sub hl [1, 2, 0] rfl) hF
end
section
variable {l : Launch} {D : va_G} {n0 : Nat} {P : mP} {S : mSh} {M : mMm} {n : Nat} {p : Program} {e : Env} {s : State} {m : MethodId} {args : Array Value} {below : List Frame} {meth : Method} {c : Code}
abbrev Rm_X0_image : Room := { frames := 7, cells := 0, slots := 0, locals := 148 }
def fb_X0_image_51 (S : mSh) (M : mMm) (x0 : Nat) : Option (Int32 × mMm) := ob (wF S M x0 1 9 (.int (1 : Int32))) fun M27 => some ((1 : Int32), M27)
theorem b_X0_image_51 {r : Int32} {M' : mMm} (X : mCx D n0 P p m c cX0_image 2 s args yX0_image.cls meth (some .boolean)) : ∀ (M : mMm) (x0 : Nat) (H : Heap) (locs : List Loc) (ls : Array Slot), mHp D n0 S M n s H locs → lv_has ls 2 [(0, .ref x0)] → fb_X0_image_51 S M x0 = some (r, M') → W p l e Rm_X0_image s m args below meth c H locs 0 0 (MQ below (mQ D n0 (some (.int r)) S M' n) args s 0 0 (mA n0)) (F0 m 51 ls []) := by
  have hx := X.1.1
  have hb := X.1.2.1
  have hown := X.1.2.2.2.1
  have hts := X.1.2.2.2.2
  intro M x0 H locs ls hp hl hF
  unfold fb_X0_image_51 at hF
  refine lv_aload_n hx hb dX0_image_51 rfl (lv_at hl 0 rfl) ?_
  refine lv_iconst (v := 1) hx hb dX0_image_52 (by decide) ?_
  obtain ⟨M27, e28, hF⟩ := ob_s hF
  refine m_putW X hp e28 kX0 (Nat.le_of_ble_eq_true rfl) q469 rfl rfl rfl dX0_image_53 (fun H locs hp => ?_)
  refine lv_iconst (v := 1) hx hb dX0_image_56 (by decide) ?_
  cases hF
  exact m_zret X hp rfl dX0_image_57
def fb_X0_image_42 (S : mSh) (M : mMm) (x0 : Nat) (x1 : Int32) : Option (Int32 × mMm) := (if x1 = 0 then gd ((S x0).1 = 1) (ob (f_X0_forgets S M x0) fun ⟨v25, M26⟩ => (fb_X0_image_51 S M26 x0)) else (fb_X0_image_51 S M x0))
theorem b_X0_image_42 {r : Int32} {M' : mMm} (X : mCx D n0 P p m c cX0_image 2 s args yX0_image.cls meth (some .boolean)) : ∀ (M : mMm) (x0 : Nat) (x1 : Int32) (H : Heap) (locs : List Loc) (ls : Array Slot), mHp D n0 S M n s H locs → lv_has ls 2 [(0, .ref x0), (1, .int x1)] → fb_X0_image_42 S M x0 x1 = some (r, M') → W p l e Rm_X0_image s m args below meth c H locs 0 0 (MQ below (mQ D n0 (some (.int r)) S M' n) args s 0 0 (mA n0)) (F0 m 42 ls []) := by
  have hx := X.1.1
  have hb := X.1.2.1
  have hown := X.1.2.2.2.1
  have hts := X.1.2.2.2.2
  intro M x0 x1 H locs ls hp hl hF
  unfold fb_X0_image_42 at hF
  refine lv_iload_n hx hb dX0_image_42 rfl (lv_at hl 1 rfl) ?_
  refine lv_if_ne (tgt := 51) hx hb dX0_image_43 (by decide) (fun c22 => ?_) (fun c22 => ?_)
  · have hF := if_n c22 hF
    exact b_X0_image_51 X _ _ _ _ _ hp (lv_sub hl [0] rfl) hF
  · have hF := if_p c22 hF
    refine lv_aload_n hx hb dX0_image_46 rfl (lv_at hl 0 rfl) ?_
    obtain ⟨g23, hF⟩ := gd_s hF
    obtain ⟨⟨v25, M26⟩, e24, hF⟩ := ob_s hF
    refine m_callV (As := []) (rest := []) X hp (w_X0_forgets e24) q981 q983 qs29 q132 q984 0 rfl ds_X0_forgets ⟨Nat.le_of_ble_eq_true rfl, Nat.le_of_ble_eq_true rfl⟩ 1 (T := TX0) (N := 30) rfl (by decide) g23 hl.1 rfl (Nat.le_of_ble_eq_true rfl) dX0_image_47 ⟨Nat.le_refl 0, Nat.le_refl 0⟩ (fun H locs hp => ?_)
    refine lv_pop hx hb dX0_image_50 rfl ?_
    exact b_X0_image_51 X _ _ _ _ _ hp (lv_sub hl [0] rfl) hF
def fb_X0_image_13 (S : mSh) (M : mMm) (x0 : Nat) (x1 : Int32) : Option (Int32 × mMm) := (if x1 = 0 then ob (rR S M x0 1 4) fun v6 => ob (rR S M x0 1 5) fun v8 => gd ((S v6).1 = 2) (ob (f_X1_takes S M v6 v8) fun M13 => (fb_X0_image_42 S M13 x0 x1)) else ob (rR S M x0 1 5) fun v14 => ob (rR S M x0 1 4) fun v16 => gd ((S v14).1 = 2) (ob (f_X1_takes S M v14 v16) fun M21 => (fb_X0_image_42 S M21 x0 x1)))
theorem b_X0_image_13 {r : Int32} {M' : mMm} (X : mCx D n0 P p m c cX0_image 2 s args yX0_image.cls meth (some .boolean)) : ∀ (M : mMm) (x0 : Nat) (x1 : Int32) (H : Heap) (locs : List Loc) (ls : Array Slot), mHp D n0 S M n s H locs → lv_has ls 2 [(0, .ref x0), (1, .int x1)] → fb_X0_image_13 S M x0 x1 = some (r, M') → W p l e Rm_X0_image s m args below meth c H locs 0 0 (MQ below (mQ D n0 (some (.int r)) S M' n) args s 0 0 (mA n0)) (F0 m 13 ls []) := by
  have hx := X.1.1
  have hb := X.1.2.1
  have hown := X.1.2.2.2.1
  have hts := X.1.2.2.2.2
  intro M x0 x1 H locs ls hp hl hF
  unfold fb_X0_image_13 at hF
  refine lv_iload_n hx hb dX0_image_13 rfl (lv_at hl 1 rfl) ?_
  refine lv_if_eq (tgt := 31) hx hb dX0_image_14 (by decide) (fun c5 => ?_) (fun c5 => ?_)
  · have hF := if_p c5 hF
    refine lv_aload_n hx hb dX0_image_31 rfl (lv_at hl 0 rfl) ?_
    obtain ⟨v6, e7, hF⟩ := ob_s hF
    refine m_getR X hp e7 kX0 (Nat.le_of_ble_eq_true rfl) q463 dX0_image_32 ?_
    refine lv_aload_n hx hb dX0_image_35 rfl (lv_at hl 0 rfl) ?_
    obtain ⟨v8, e9, hF⟩ := ob_s hF
    refine m_getR X hp e9 kX0 (Nat.le_of_ble_eq_true rfl) q465 dX0_image_36 ?_
    obtain ⟨g10, hF⟩ := gd_s hF
    obtain ⟨M13, e11, hF⟩ := ob_s hF
    refine m_callV (As := [.ref v8]) (rest := []) X hp (w_X1_takes e11) q1440 q1441 q1442 q133 q1443 1 rfl ds_X1_takes ⟨Nat.le_of_ble_eq_true rfl, Nat.le_of_ble_eq_true rfl⟩ 2 (T := TX1) (N := 19) rfl (by decide) g10 hl.1 rfl (Nat.le_of_ble_eq_true rfl) dX0_image_39 ⟨Nat.le_refl 0, Nat.le_refl 0⟩ (fun H locs hp => ?_)
    exact b_X0_image_42 X _ _ _ _ _ _ hp (lv_sub hl [0, 1] rfl) hF
  · have hF := if_n c5 hF
    refine lv_aload_n hx hb dX0_image_17 rfl (lv_at hl 0 rfl) ?_
    obtain ⟨v14, e15, hF⟩ := ob_s hF
    refine m_getR X hp e15 kX0 (Nat.le_of_ble_eq_true rfl) q465 dX0_image_18 ?_
    refine lv_aload_n hx hb dX0_image_21 rfl (lv_at hl 0 rfl) ?_
    obtain ⟨v16, e17, hF⟩ := ob_s hF
    refine m_getR X hp e17 kX0 (Nat.le_of_ble_eq_true rfl) q463 dX0_image_22 ?_
    obtain ⟨g18, hF⟩ := gd_s hF
    obtain ⟨M21, e19, hF⟩ := ob_s hF
    refine m_callV (As := [.ref v16]) (rest := []) X hp (w_X1_takes e19) q1440 q1441 q1442 q133 q1443 1 rfl ds_X1_takes ⟨Nat.le_of_ble_eq_true rfl, Nat.le_of_ble_eq_true rfl⟩ 2 (T := TX1) (N := 19) rfl (by decide) g18 hl.1 rfl (Nat.le_of_ble_eq_true rfl) dX0_image_25 ⟨Nat.le_refl 0, Nat.le_refl 0⟩ (fun H locs hp => ?_)
    refine lv_goto (tgt := 42) hx hb dX0_image_28 (by decide) ?_
    exact b_X0_image_42 X _ _ _ _ _ _ hp (lv_sub hl [0, 1] rfl) hF
def f_X0_image (S : mSh) (M : mMm) (x0 : Nat) (x1 : Int32) : Option (Int32 × mMm) := (if x1 = 0 then ob (rI S M x0 1 9) fun v2 => (if v2 = 0 then some ((0 : Int32), M) else (fb_X0_image_13 S M x0 x1)) else (fb_X0_image_13 S M x0 x1))
theorem w_X0_image {x0 : Nat} {x1 : Int32} {r : Int32} {M' : mMm} (hF : f_X0_image S M x0 x1 = some (r, M')) : mCt l D n0 P yX0_image cX0_image 2 (some .boolean) 7 148 0 0 [.ref x0, .int x1] S M n (some (.int r)) S M' n := by
  refine m_ofW (by decide) (Nat.le_of_ble_eq_true rfl) (fun p e s m below meth c X hnm hp ls hl => ?_)
  have hx := X.1.1
  have hb := X.1.2.1
  have hown := X.1.2.2.2.1
  have hts := X.1.2.2.2.2
  have hl : lv_has ls 2 [(0, .ref x0), (1, .int x1)] := hl
  unfold f_X0_image at hF
  refine lv_iload_n hx hb dX0_image_0 rfl (lv_at hl 1 rfl) ?_
  refine lv_if_ne (tgt := 13) hx hb dX0_image_1 (by decide) (fun c1 => ?_) (fun c1 => ?_)
  · have hF := if_n c1 hF
    exact b_X0_image_13 X _ _ _ _ _ _ hp (lv_sub hl [0, 1] rfl) hF
  · have hF := if_p c1 hF
    refine lv_aload_n hx hb dX0_image_4 rfl (lv_at hl 0 rfl) ?_
    obtain ⟨v2, e3, hF⟩ := ob_s hF
    refine m_getI X hp e3 kX0 (Nat.le_of_ble_eq_true rfl) q469 dX0_image_5 ?_
    refine lv_if_ne (tgt := 13) hx hb dX0_image_8 (by decide) (fun c4 => ?_) (fun c4 => ?_)
    · have hF := if_n c4 hF
      exact b_X0_image_13 X _ _ _ _ _ _ hp (lv_sub hl [0, 1] rfl) hF
    · have hF := if_p c4 hF
      refine lv_iconst (v := 0) hx hb dX0_image_11 (by decide) ?_
      cases hF
      exact m_zret X hp rfl dX0_image_12
end
section
variable {l : Launch} {D : va_G} {n0 : Nat} {P : mP} {S : mSh} {M : mMm} {n : Nat} {p : Program} {e : Env} {s : State} {m : MethodId} {args : Array Value} {below : List Frame} {meth : Method} {c : Code}
abbrev Rm_X2_init : Room := { frames := 1, cells := 0, slots := 0, locals := 60 }
def f_X2_init (S : mSh) (M : mMm) (x0 : Nat) (x1 : Int32) (x2 : Int32) (x3 : Int32) : Option mMm := gd (x1 &&& 1 = x1) (ob (wF S M x0 3 0 (.int x1)) fun M2 => ob (wF S M2 x0 3 1 (.int x2)) fun M4 => ob (wF S M4 x0 3 2 (.int x3)) fun M6 => some M6)
theorem w_X2_init {x0 : Nat} {x1 : Int32} {x2 : Int32} {x3 : Int32} {M' : mMm} (hF : f_X2_init S M x0 x1 x2 x3 = some M') : mCt l D n0 P yX2_init cX2_init 4 none 1 60 0 0 [.ref x0, .int x1, .int x2, .int x3] S M n none S M' n := by
  refine m_ofW (by decide) (Nat.le_of_ble_eq_true rfl) (fun p e s m below meth c X hnm hp ls hl => ?_)
  have hx := X.1.1
  have hb := X.1.2.1
  have hown := X.1.2.2.2.1
  have hts := X.1.2.2.2.2
  have hl : lv_has ls 4 [(0, .ref x0), (1, .int x1), (2, .int x2), (3, .int x3)] := hl
  unfold f_X2_init at hF
  refine lv_aload_n hx hb dX2_init_0 rfl (lv_at hl 0 rfl) ?_
  refine m_objInit X q183 q168 q169 hl.1 (Nat.le_of_ble_eq_true rfl) (Nat.le_of_ble_eq_true rfl) dX2_init_1 ?_
  refine lv_aload_n hx hb dX2_init_4 rfl (lv_at hl 0 rfl) ?_
  refine lv_iload_n hx hb dX2_init_5 rfl (lv_at hl 1 rfl) ?_
  obtain ⟨g1, hF⟩ := gd_s hF
  obtain ⟨M2, e3, hF⟩ := ob_s hF
  refine m_putWF X hp e3 kX2 (Nat.le_of_ble_eq_true rfl) q184 rfl hnm rfl ((bz_iff _).mpr g1) (bz_fit g1) dX2_init_6 (fun H locs hp => ?_)
  refine lv_aload_n hx hb dX2_init_9 rfl (lv_at hl 0 rfl) ?_
  refine lv_iload_n hx hb dX2_init_10 rfl (lv_at hl 2 rfl) ?_
  obtain ⟨M4, e5, hF⟩ := ob_s hF
  refine m_putWF X hp e5 kX2 (Nat.le_of_ble_eq_true rfl) q187 rfl hnm rfl rfl rfl dX2_init_11 (fun H locs hp => ?_)
  refine lv_aload_n hx hb dX2_init_14 rfl (lv_at hl 0 rfl) ?_
  refine lv_iload_n hx hb dX2_init_15 rfl (lv_at hl 3 rfl) ?_
  obtain ⟨M6, e7, hF⟩ := ob_s hF
  refine m_putWF X hp e7 kX2 (Nat.le_of_ble_eq_true rfl) q190 rfl hnm rfl rfl rfl dX2_init_16 (fun H locs hp => ?_)
  cases hF
  exact m_vret X hp dX2_init_19
end
section
variable {l : Launch} {D : va_G} {n0 : Nat} {P : mP} {S : mSh} {M : mMm} {n : Nat} {p : Program} {e : Env} {s : State} {m : MethodId} {args : Array Value} {below : List Frame} {meth : Method} {c : Code}
abbrev Rm_X4_init : Room := { frames := 1, cells := 0, slots := 0, locals := 60 }
def f_X4_init (S : mSh) (M : mMm) (x0 : Nat) : Option Unit := some ()
theorem w_X4_init {x0 : Nat} (hF : f_X4_init S M x0 = some ()) : mCt l D n0 P yX4_init cX4_init 1 none 1 60 0 0 [.ref x0] S M n none S M n := by
  refine m_ofW (by decide) (Nat.le_of_ble_eq_true rfl) (fun p e s m below meth c X hnm hp ls hl => ?_)
  have hx := X.1.1
  have hb := X.1.2.1
  have hown := X.1.2.2.2.1
  have hts := X.1.2.2.2.2
  have hl : lv_has ls 1 [(0, .ref x0)] := hl
  unfold f_X4_init at hF
  refine lv_aload_n hx hb dX4_init_0 rfl (lv_at hl 0 rfl) ?_
  refine m_objInit X q250 q168 q169 hl.1 (Nat.le_of_ble_eq_true rfl) (Nat.le_of_ble_eq_true rfl) dX4_init_1 ?_
  cases hF
  exact m_vret X hp dX4_init_4
end
section
variable {l : Launch} {D : va_G} {n0 : Nat} {P : mP} {S : mSh} {M : mMm} {n : Nat} {p : Program} {e : Env} {s : State} {m : MethodId} {args : Array Value} {below : List Frame} {meth : Method} {c : Code}
abbrev Rm_X0_isInside : Room := { frames := 2, cells := 0, slots := 0, locals := 43 }
def f_X0_isInside (S : mSh) (M : mMm) (x0 : Nat) (x1 : Int32) : Option Int32 := gd ((S x0).1 = 1) (ob (f_X0_isWalker S M x0 x1) fun v3 => (if v3 = 0 then some (0 : Int32) else ob (rR S M x0 1 4) fun v5 => ob (rR S M v5 2 1) fun v7 => ob (aR S M v7 104 x1) fun v9 => gd ((S v9).1 = 5) (ob (f_X4_isIn S M v9) fun v13 => (if v13 = 0 then some (0 : Int32) else some (1 : Int32)))))
theorem w_X0_isInside {x0 : Nat} {x1 : Int32} {r : Int32} (hF : f_X0_isInside S M x0 x1 = some r) : mCt l D n0 P yX0_isInside cX0_isInside 2 (some .boolean) 2 43 0 0 [.ref x0, .int x1] S M n (some (.int r)) S M n := by
  refine m_ofW (by decide) (Nat.le_of_ble_eq_true rfl) (fun p e s m below meth c X hnm hp ls hl => ?_)
  have hx := X.1.1
  have hb := X.1.2.1
  have hown := X.1.2.2.2.1
  have hts := X.1.2.2.2.2
  have hl : lv_has ls 2 [(0, .ref x0), (1, .int x1)] := hl
  unfold f_X0_isInside at hF
  refine lv_aload_n hx hb dX0_isInside_0 rfl (lv_at hl 0 rfl) ?_
  refine lv_iload_n hx hb dX0_isInside_1 rfl (lv_at hl 1 rfl) ?_
  obtain ⟨g1, hF⟩ := gd_s hF
  obtain ⟨v3, e2, hF⟩ := ob_s hF
  refine m_callV (As := [.int x1]) (rest := []) X hp (w_X0_isWalker e2) q1019 q1021 qs30 q132 q1022 1 rfl ds_X0_isWalker ⟨Nat.le_of_ble_eq_true rfl, Nat.le_of_ble_eq_true rfl⟩ 1 (T := TX0) (N := 30) rfl (by decide) g1 hl.1 rfl (Nat.le_of_ble_eq_true rfl) dX0_isInside_2 ⟨Nat.le_refl 0, Nat.le_refl 0⟩ (fun H locs hp => ?_)
  refine lv_if_eq (tgt := 27) hx hb dX0_isInside_5 (by decide) (fun c4 => ?_) (fun c4 => ?_)
  · have hF := if_p c4 hF
    refine lv_iconst (v := 0) hx hb dX0_isInside_27 (by decide) ?_
    cases hF
    exact m_zret X hp rfl dX0_isInside_28
  · have hF := if_n c4 hF
    refine lv_aload_n hx hb dX0_isInside_8 rfl (lv_at hl 0 rfl) ?_
    obtain ⟨v5, e6, hF⟩ := ob_s hF
    refine m_getR X hp e6 kX0 (Nat.le_of_ble_eq_true rfl) q463 dX0_isInside_9 ?_
    obtain ⟨v7, e8, hF⟩ := ob_s hF
    refine m_getRN X hp e8 kX1 (Nat.le_of_ble_eq_true rfl) q378 dX0_isInside_12 ?_
    refine lv_iload_n hx hb dX0_isInside_15 rfl (lv_at hl 1 rfl) ?_
    obtain ⟨v9, e10, hF⟩ := ob_s hF
    refine m_aaR 104 X hp e10 rfl (by decide) rfl dX0_isInside_16 ?_
    obtain ⟨g11, hF⟩ := gd_s hF
    obtain ⟨v13, e12, hF⟩ := ob_s hF
    refine m_callV (As := []) (rest := []) X hp (w_X4_isIn e12) q1023 q932 q933 q139 q934 0 rfl ds_X4_isIn ⟨Nat.le_of_ble_eq_true rfl, Nat.le_of_ble_eq_true rfl⟩ 5 (T := TX4) (N := 11) rfl (by decide) g11 hl.1 rfl (Nat.le_of_ble_eq_true rfl) dX0_isInside_17 ⟨Nat.le_refl 0, Nat.le_refl 0⟩ (fun H locs hp => ?_)
    refine lv_if_eq (tgt := 27) hx hb dX0_isInside_20 (by decide) (fun c14 => ?_) (fun c14 => ?_)
    · have hF := if_p c14 hF
      refine lv_iconst (v := 0) hx hb dX0_isInside_27 (by decide) ?_
      cases hF
      exact m_zret X hp rfl dX0_isInside_28
    · have hF := if_n c14 hF
      refine lv_iconst (v := 1) hx hb dX0_isInside_23 (by decide) ?_
      refine lv_goto (tgt := 28) hx hb dX0_isInside_24 (by decide) ?_
      cases hF
      exact m_zret X hp rfl dX0_isInside_28
end
section
variable {l : Launch} {D : va_G} {n0 : Nat} {P : mP} {S : mSh} {M : mMm} {n : Nat} {p : Program} {e : Env} {s : State} {m : MethodId} {args : Array Value} {below : List Frame} {meth : Method} {c : Code}
abbrev Rm_X0_isSecond : Room := { frames := 2, cells := 0, slots := 0, locals := 45 }
def fb_X0_isSecond_53 (S : mSh) (M : mMm) (k5 : Nat → Int32 → Int32 → Int32 → Int32 → Option Int32) (x0 : Nat) (x1 : Int32) (x2 : Int32) (x4 : Int32) (y0 : Int32) (y1 : Int32) : Option Int32 := nm ((y1 &&& y0)) fun v27 => nm (x4 + (1 : Int32)) fun v29 => (k5 x0 x1 x2 v27 v29)
theorem b_X0_isSecond_53 {r : Int32} (X : mCx D n0 P p m c cX0_isSecond 5 s args yX0_isSecond.cls meth (some .boolean)) (k5 : Nat → Int32 → Int32 → Int32 → Int32 → Option Int32) (hk5 : ∀ (x0 : Nat) (x1 : Int32) (x2 : Int32) (x3 : Int32) (x4 : Int32) (H : Heap) (locs : List Loc) (ls : Array Slot), mHp D n0 S M n s H locs → lv_has ls 5 [(0, .ref x0), (1, .int x1), (2, .int x2), (3, .int x3), (4, .int x4)] → k5 x0 x1 x2 x3 x4 = some r → W p l e Rm_X0_isSecond s m args below meth c H locs 0 0 (MQ below (mQ D n0 (some (.int r)) S M n) args s 0 0 (mA n0)) (F0 m 5 ls [])) : ∀ (x0 : Nat) (x1 : Int32) (x2 : Int32) (x4 : Int32) (y0 : Int32) (y1 : Int32) (H : Heap) (locs : List Loc) (ls : Array Slot), mHp D n0 S M n s H locs → lv_has ls 5 [(0, .ref x0), (1, .int x1), (2, .int x2), (4, .int x4)] → fb_X0_isSecond_53 S M k5 x0 x1 x2 x4 y0 y1 = some r → W p l e Rm_X0_isSecond s m args below meth c H locs 0 0 (MQ below (mQ D n0 (some (.int r)) S M n) args s 0 0 (mA n0)) (F0 m 53 ls [.int y0, .int y1]) := by
  have hx := X.1.1
  have hb := X.1.2.1
  have hown := X.1.2.2.2.1
  have hts := X.1.2.2.2.2
  intro x0 x1 x2 x4 y0 y1 H locs ls hp hl hF
  unfold fb_X0_isSecond_53 at hF
  refine lv_iand hx hb dX0_isSecond_53 ?_
  refine lv_topi (fun v27 ev28 => ?_)
  have hF := nm_s hF ev28
  refine lv_istore_n (lv' := [(3, .int v27), (0, .ref x0), (1, .int x1), (2, .int x2), (4, .int x4)]) hx hb dX0_isSecond_54 rfl hl (by decide) rfl (fun ls hl => ?_)
  obtain ⟨v29, ev30⟩ : ∃ y : Int32, y = x4 + (1 : Int32) := ⟨_, rfl⟩
  have hF := nm_s hF ev30
  refine lv_iinc (v := v29) (lv' := [(4, .int v29), (3, .int v27), (0, .ref x0), (1, .int x1), (2, .int x2)]) hx hb dX0_isSecond_55 hl (k := 4) rfl (by rw [ev30]; rfl) (by decide) rfl (fun ls hl => ?_)
  refine lv_goto (tgt := 5) hx hb dX0_isSecond_58 (by decide) ?_
  exact hk5 _ _ _ _ _ _ _ _ hp (lv_sub hl [2, 3, 4, 1, 0] rfl) hF
def fb_X0_isSecond_5 (S : mSh) (M : mMm) : Nat → Nat → Int32 → Int32 → Int32 → Int32 → Option Int32
  | 0, _, _, _, _, _ => none
  | t + 1, x0, x1, x2, x3, x4 => ob (rR S M x0 1 4) fun v5 => ob (rR S M v5 2 4) fun v7 => ob (aR S M v7 105 (0 : Int32)) fun v9 => ob (rI S M v9 4 1) fun v11 => (if v11 ≤ x4 then gd (x3 &&& 1 = x3) (some x3) else ob (f_X0_asBegun S M x0 x4 x1 x2) fun v16 => ob (rR S M x0 1 4) fun v17 => ob (rR S M v17 2 4) fun v19 => ob (aR S M v19 105 (1 : Int32)) fun v21 => gd ((S v21).1 = 4) (ob (f_X3_first S M v21 x4) fun v25 => (if v16 = v25 then (fb_X0_isSecond_53 S M (fb_X0_isSecond_5 S M t) x0 x1 x2 x4 (1 : Int32) x3) else (fb_X0_isSecond_53 S M (fb_X0_isSecond_5 S M t) x0 x1 x2 x4 (0 : Int32) x3))))
theorem b_X0_isSecond_5 {r : Int32} (X : mCx D n0 P p m c cX0_isSecond 5 s args yX0_isSecond.cls meth (some .boolean)) : ∀ t : Nat, ∀ (x0 : Nat) (x1 : Int32) (x2 : Int32) (x3 : Int32) (x4 : Int32) (H : Heap) (locs : List Loc) (ls : Array Slot), mHp D n0 S M n s H locs → lv_has ls 5 [(0, .ref x0), (1, .int x1), (2, .int x2), (3, .int x3), (4, .int x4)] → fb_X0_isSecond_5 S M t x0 x1 x2 x3 x4 = some r → W p l e Rm_X0_isSecond s m args below meth c H locs 0 0 (MQ below (mQ D n0 (some (.int r)) S M n) args s 0 0 (mA n0)) (F0 m 5 ls []) := by
  have hx := X.1.1
  have hb := X.1.2.1
  have hown := X.1.2.2.2.1
  have hts := X.1.2.2.2.2
  intro t
  induction t with
  | zero =>
    intro x0 x1 x2 x3 x4 H locs ls hp hl hF
    have hF : none = some r := hF
    cases hF
  | succ t ih =>
    intro x0 x1 x2 x3 x4 H locs ls hp hl hF
    rw [fb_X0_isSecond_5] at hF
    refine lv_iload hx hb dX0_isSecond_5 (lv_at hl 4 rfl) ?_
    refine lv_aload_n hx hb dX0_isSecond_7 rfl (lv_at hl 0 rfl) ?_
    obtain ⟨v5, e6, hF⟩ := ob_s hF
    refine m_getR X hp e6 kX0 (Nat.le_of_ble_eq_true rfl) q463 dX0_isSecond_8 ?_
    obtain ⟨v7, e8, hF⟩ := ob_s hF
    refine m_getRN X hp e8 kX1 (Nat.le_of_ble_eq_true rfl) q384 dX0_isSecond_11 ?_
    refine lv_iconst (v := 0) hx hb dX0_isSecond_14 (by decide) ?_
    obtain ⟨v9, e10, hF⟩ := ob_s hF
    refine m_aaR 105 X hp e10 rfl (by decide) rfl dX0_isSecond_15 ?_
    obtain ⟨v11, e12, hF⟩ := ob_s hF
    refine m_getIN X hp e12 kX3 (Nat.le_of_ble_eq_true rfl) q214 dX0_isSecond_16 ?_
    refine lv_icmp_ge (tgt := 61) hx hb dX0_isSecond_19 (by decide) (fun c13 => ?_) (fun c13 => ?_)
    · have hF := if_p c13 hF
      refine lv_iload_n hx hb dX0_isSecond_61 rfl (lv_at hl 3 rfl) ?_
      obtain ⟨g14, hF⟩ := gd_s hF
      cases hF
      exact m_zret X hp ((bz_iff _).mpr g14) dX0_isSecond_62
    · have hF := if_n c13 hF
      refine lv_iload_n hx hb dX0_isSecond_22 rfl (lv_at hl 3 rfl) ?_
      refine lv_aload_n hx hb dX0_isSecond_23 rfl (lv_at hl 0 rfl) ?_
      refine lv_iload hx hb dX0_isSecond_24 (lv_at hl 4 rfl) ?_
      refine lv_iload_n hx hb dX0_isSecond_26 rfl (lv_at hl 1 rfl) ?_
      refine lv_iload_n hx hb dX0_isSecond_27 rfl (lv_at hl 2 rfl) ?_
      obtain ⟨v16, e15, hF⟩ := ob_s hF
      refine m_callV (As := [.int x4, .int x1, .int x2]) (rest := [.int x3]) X hp (w_X0_asBegun e15) q1300 q1302 qs50 q132 q1303 3 rfl ds_X0_asBegun ⟨Nat.le_of_ble_eq_true rfl, Nat.le_of_ble_eq_true rfl⟩ 1 (T := TX0) (N := 30) rfl (by decide) (rR_s e6).1 hl.1 rfl (Nat.le_of_ble_eq_true rfl) dX0_isSecond_28 ⟨Nat.le_refl 0, Nat.le_refl 0⟩ (fun H locs hp => ?_)
      refine lv_aload_n hx hb dX0_isSecond_31 rfl (lv_at hl 0 rfl) ?_
      obtain ⟨v17, e18, hF⟩ := ob_s hF
      refine m_getR X hp e18 kX0 (Nat.le_of_ble_eq_true rfl) q463 dX0_isSecond_32 ?_
      obtain ⟨v19, e20, hF⟩ := ob_s hF
      refine m_getRN X hp e20 kX1 (Nat.le_of_ble_eq_true rfl) q384 dX0_isSecond_35 ?_
      refine lv_iconst (v := 1) hx hb dX0_isSecond_38 (by decide) ?_
      obtain ⟨v21, e22, hF⟩ := ob_s hF
      refine m_aaR 105 X hp e22 rfl (by decide) rfl dX0_isSecond_39 ?_
      refine lv_iload hx hb dX0_isSecond_40 (lv_at hl 4 rfl) ?_
      obtain ⟨g23, hF⟩ := gd_s hF
      obtain ⟨v25, e24, hF⟩ := ob_s hF
      refine m_callV (As := [.int x4]) (rest := [.int v16, .int x3]) X hp (w_X3_first e24) q1304 q1305 q1306 q135 q1307 1 rfl ds_X3_first ⟨Nat.le_of_ble_eq_true rfl, Nat.le_of_ble_eq_true rfl⟩ 4 (T := TX3) (N := 2) rfl (by decide) g23 hl.1 rfl (Nat.le_of_ble_eq_true rfl) dX0_isSecond_42 ⟨Nat.le_refl 0, Nat.le_refl 0⟩ (fun H locs hp => ?_)
      refine lv_icmp_ne (tgt := 52) hx hb dX0_isSecond_45 (by decide) (fun c26 => ?_) (fun c26 => ?_)
      · have hF := if_n c26 hF
        refine lv_iconst (v := 0) hx hb dX0_isSecond_52 (by decide) ?_
        exact b_X0_isSecond_53 X _ ih _ _ _ _ _ _ _ _ _ hp (lv_sub hl [0, 1, 2, 4] rfl) hF
      · have hF := if_p c26 hF
        refine lv_iconst (v := 1) hx hb dX0_isSecond_48 (by decide) ?_
        refine lv_goto (tgt := 53) hx hb dX0_isSecond_49 (by decide) ?_
        exact b_X0_isSecond_53 X _ ih _ _ _ _ _ _ _ _ _ hp (lv_sub hl [0, 1, 2, 4] rfl) hF
def f_X0_isSecond (S : mSh) (M : mMm) (x0 : Nat) (x1 : Int32) (x2 : Int32) : Option Int32 := nm ((1 : Int32)) fun v1 => nm ((0 : Int32)) fun v3 => (fb_X0_isSecond_5 S M FU x0 x1 x2 v1 v3)
theorem w_X0_isSecond {x0 : Nat} {x1 : Int32} {x2 : Int32} {r : Int32} (hF : f_X0_isSecond S M x0 x1 x2 = some r) : mCt l D n0 P yX0_isSecond cX0_isSecond 5 (some .boolean) 2 45 0 0 [.ref x0, .int x1, .int x2] S M n (some (.int r)) S M n := by
  refine m_ofW (by decide) (Nat.le_of_ble_eq_true rfl) (fun p e s m below meth c X hnm hp ls hl => ?_)
  have hx := X.1.1
  have hb := X.1.2.1
  have hown := X.1.2.2.2.1
  have hts := X.1.2.2.2.2
  have hl : lv_has ls 5 [(0, .ref x0), (1, .int x1), (2, .int x2)] := hl
  unfold f_X0_isSecond at hF
  refine lv_iconst (v := 1) hx hb dX0_isSecond_0 (by decide) ?_
  refine lv_topi (fun v1 ev2 => ?_)
  have hF := nm_s hF ev2
  refine lv_istore_n (lv' := [(3, .int v1), (0, .ref x0), (1, .int x1), (2, .int x2)]) hx hb dX0_isSecond_1 rfl hl (by decide) rfl (fun ls hl => ?_)
  refine lv_iconst (v := 0) hx hb dX0_isSecond_2 (by decide) ?_
  refine lv_topi (fun v3 ev4 => ?_)
  have hF := nm_s hF ev4
  refine lv_istore (lv' := [(4, .int v3), (3, .int v1), (0, .ref x0), (1, .int x1), (2, .int x2)]) hx hb dX0_isSecond_3 hl (by decide) rfl (fun ls hl => ?_)
  exact b_X0_isSecond_5 X _ _ _ _ _ _ _ _ _ hp (lv_sub hl [2, 3, 4, 1, 0] rfl) hF
end
section
variable {l : Launch} {D : va_G} {n0 : Nat} {P : mP} {S : mSh} {M : mMm} {n : Nat} {p : Program} {e : Env} {s : State} {m : MethodId} {args : Array Value} {below : List Frame} {meth : Method} {c : Code}
abbrev Rm_X0_isSeen : Room := { frames := 1, cells := 0, slots := 0, locals := 22 }
def fb_X0_isSeen_136 (S : mSh) (M : mMm) (k54 : Nat → Int32 → Int32 → Int32 → Int32 → Int32 → Int32 → Option Int32) (x0 : Nat) (x1 : Int32) (x3 : Int32) (x4 : Int32) (x5 : Int32) (x6 : Int32) (x7 : Int32) (x8 : Int32) (y0 : Int32) (y1 : Int32) : Option Int32 := nm ((y1 + y0)) fun v29 => ob (rR S M x0 1 4) fun v31 => ob (rR S M v31 2 0) fun v33 => ob (aI S M v33 100 (((12 : Int32) * v29) + x8)) fun v35 => (if v35 = (1 : Int32) then some (0 : Int32) else nm (x7 + (1 : Int32)) fun v38 => (k54 x0 x1 x3 x4 x5 x6 v38))
theorem b_X0_isSeen_136 {r : Int32} (X : mCx D n0 P p m c cX0_isSeen 10 s args yX0_isSeen.cls meth (some .boolean)) (k54 : Nat → Int32 → Int32 → Int32 → Int32 → Int32 → Int32 → Option Int32) (hk54 : ∀ (x0 : Nat) (x1 : Int32) (x3 : Int32) (x4 : Int32) (x5 : Int32) (x6 : Int32) (x7 : Int32) (H : Heap) (locs : List Loc) (ls : Array Slot), mHp D n0 S M n s H locs → lv_has ls 10 [(0, .ref x0), (1, .int x1), (3, .int x3), (4, .int x4), (5, .int x5), (6, .int x6), (7, .int x7)] → k54 x0 x1 x3 x4 x5 x6 x7 = some r → W p l e Rm_X0_isSeen s m args below meth c H locs 0 0 (MQ below (mQ D n0 (some (.int r)) S M n) args s 0 0 (mA n0)) (F0 m 54 ls [])) : ∀ (x0 : Nat) (x1 : Int32) (x3 : Int32) (x4 : Int32) (x5 : Int32) (x6 : Int32) (x7 : Int32) (x8 : Int32) (y0 : Int32) (y1 : Int32) (H : Heap) (locs : List Loc) (ls : Array Slot), mHp D n0 S M n s H locs → lv_has ls 10 [(0, .ref x0), (1, .int x1), (3, .int x3), (4, .int x4), (5, .int x5), (6, .int x6), (7, .int x7), (8, .int x8)] → fb_X0_isSeen_136 S M k54 x0 x1 x3 x4 x5 x6 x7 x8 y0 y1 = some r → W p l e Rm_X0_isSeen s m args below meth c H locs 0 0 (MQ below (mQ D n0 (some (.int r)) S M n) args s 0 0 (mA n0)) (F0 m 136 ls [.int y0, .int y1]) := by
  have hx := X.1.1
  have hb := X.1.2.1
  have hown := X.1.2.2.2.1
  have hts := X.1.2.2.2.2
  intro x0 x1 x3 x4 x5 x6 x7 x8 y0 y1 H locs ls hp hl hF
  unfold fb_X0_isSeen_136 at hF
  refine lv_iadd hx hb dX0_isSeen_136 ?_
  refine lv_topi (fun v29 ev30 => ?_)
  have hF := nm_s hF ev30
  refine lv_istore (lv' := [(9, .int v29), (0, .ref x0), (1, .int x1), (3, .int x3), (4, .int x4), (5, .int x5), (6, .int x6), (7, .int x7), (8, .int x8)]) hx hb dX0_isSeen_137 hl (by decide) rfl (fun ls hl => ?_)
  refine lv_aload_n hx hb dX0_isSeen_139 rfl (lv_at hl 1 rfl) ?_
  obtain ⟨v31, e32, hF⟩ := ob_s hF
  refine m_getR X hp e32 kX0 (Nat.le_of_ble_eq_true rfl) q463 dX0_isSeen_140 ?_
  obtain ⟨v33, e34, hF⟩ := ob_s hF
  refine m_getRN X hp e34 kX1 (Nat.le_of_ble_eq_true rfl) q376 dX0_isSeen_143 ?_
  refine lv_bipush (v := 12) hx hb dX0_isSeen_146 (by decide) ?_
  refine lv_iload hx hb dX0_isSeen_148 (lv_at hl 0 rfl) ?_
  refine lv_imul hx hb dX0_isSeen_150 ?_
  refine lv_iload hx hb dX0_isSeen_151 (lv_at hl 8 rfl) ?_
  refine lv_iadd hx hb dX0_isSeen_153 ?_
  obtain ⟨v35, e36, hF⟩ := ob_s hF
  refine m_iaI X hp e36 dX0_isSeen_154 ?_
  refine lv_iconst (v := 1) hx hb dX0_isSeen_155 (by decide) ?_
  refine lv_icmp_ne (tgt := 161) hx hb dX0_isSeen_156 (by decide) (fun c37 => ?_) (fun c37 => ?_)
  · have hF := if_n c37 hF
    obtain ⟨v38, ev39⟩ : ∃ y : Int32, y = x7 + (1 : Int32) := ⟨_, rfl⟩
    have hF := nm_s hF ev39
    refine lv_iinc (v := v38) (lv' := [(7, .int v38), (9, .int v29), (0, .ref x0), (1, .int x1), (3, .int x3), (4, .int x4), (5, .int x5), (6, .int x6), (8, .int x8)]) hx hb dX0_isSeen_161 hl (k := 7) rfl (by rw [ev39]; rfl) (by decide) rfl (fun ls hl => ?_)
    refine lv_goto (tgt := 54) hx hb dX0_isSeen_164 (by decide) ?_
    exact hk54 _ _ _ _ _ _ _ _ _ _ hp (lv_sub hl [2, 3, 4, 5, 6, 7, 0] rfl) hF
  · have hF := if_p c37 hF
    refine lv_iconst (v := 0) hx hb dX0_isSeen_159 (by decide) ?_
    cases hF
    exact m_zret X hp rfl dX0_isSeen_160
def fb_X0_isSeen_96 (S : mSh) (M : mMm) (k54 : Nat → Int32 → Int32 → Int32 → Int32 → Int32 → Int32 → Option Int32) (x0 : Nat) (x1 : Int32) (x3 : Int32) (x4 : Int32) (x5 : Int32) (x6 : Int32) (x7 : Int32) (y0 : Int32) (y1 : Int32) : Option Int32 := nm ((y1 + y0)) fun v22 => (if x6 = 0 then ob (f_J8_signum x4) fun v26 => (fb_X0_isSeen_136 S M k54 x0 x1 x3 x4 x5 x6 x7 v22 (x7 * v26) (x1 / (12 : Int32))) else ob (f_J4_floorDiv ((((2 : Int32) * x7) * x4) + x5) ((2 : Int32) * x5)) fun v28 => (fb_X0_isSeen_136 S M k54 x0 x1 x3 x4 x5 x6 x7 v22 v28 (x1 / (12 : Int32))))
theorem b_X0_isSeen_96 {r : Int32} (X : mCx D n0 P p m c cX0_isSeen 10 s args yX0_isSeen.cls meth (some .boolean)) (k54 : Nat → Int32 → Int32 → Int32 → Int32 → Int32 → Int32 → Option Int32) (hk54 : ∀ (x0 : Nat) (x1 : Int32) (x3 : Int32) (x4 : Int32) (x5 : Int32) (x6 : Int32) (x7 : Int32) (H : Heap) (locs : List Loc) (ls : Array Slot), mHp D n0 S M n s H locs → lv_has ls 10 [(0, .ref x0), (1, .int x1), (3, .int x3), (4, .int x4), (5, .int x5), (6, .int x6), (7, .int x7)] → k54 x0 x1 x3 x4 x5 x6 x7 = some r → W p l e Rm_X0_isSeen s m args below meth c H locs 0 0 (MQ below (mQ D n0 (some (.int r)) S M n) args s 0 0 (mA n0)) (F0 m 54 ls [])) : ∀ (x0 : Nat) (x1 : Int32) (x3 : Int32) (x4 : Int32) (x5 : Int32) (x6 : Int32) (x7 : Int32) (y0 : Int32) (y1 : Int32) (H : Heap) (locs : List Loc) (ls : Array Slot), mHp D n0 S M n s H locs → lv_has ls 10 [(0, .ref x0), (1, .int x1), (3, .int x3), (4, .int x4), (5, .int x5), (6, .int x6), (7, .int x7)] → fb_X0_isSeen_96 S M k54 x0 x1 x3 x4 x5 x6 x7 y0 y1 = some r → W p l e Rm_X0_isSeen s m args below meth c H locs 0 0 (MQ below (mQ D n0 (some (.int r)) S M n) args s 0 0 (mA n0)) (F0 m 96 ls [.int y0, .int y1]) := by
  have hx := X.1.1
  have hb := X.1.2.1
  have hown := X.1.2.2.2.1
  have hts := X.1.2.2.2.2
  intro x0 x1 x3 x4 x5 x6 x7 y0 y1 H locs ls hp hl hF
  unfold fb_X0_isSeen_96 at hF
  refine lv_iadd hx hb dX0_isSeen_96 ?_
  refine lv_topi (fun v22 ev23 => ?_)
  have hF := nm_s hF ev23
  refine lv_istore (lv' := [(8, .int v22), (0, .ref x0), (1, .int x1), (3, .int x3), (4, .int x4), (5, .int x5), (6, .int x6), (7, .int x7)]) hx hb dX0_isSeen_97 hl (by decide) rfl (fun ls hl => ?_)
  refine lv_iload_n hx hb dX0_isSeen_99 rfl (lv_at hl 2 rfl) ?_
  refine lv_bipush (v := 12) hx hb dX0_isSeen_100 (by decide) ?_
  refine lv_idiv hx hb dX0_isSeen_102 (by decide) ?_
  refine lv_iload hx hb dX0_isSeen_103 (lv_at hl 6 rfl) ?_
  refine lv_if_eq (tgt := 128) hx hb dX0_isSeen_105 (by decide) (fun c24 => ?_) (fun c24 => ?_)
  · have hF := if_p c24 hF
    refine lv_iload hx hb dX0_isSeen_128 (lv_at hl 7 rfl) ?_
    refine lv_iload hx hb dX0_isSeen_130 (lv_at hl 4 rfl) ?_
    obtain ⟨v26, e25, hF⟩ := ob_s hF
    refine m_callS (As := [.int x4]) (rest := [.int x7, .int (x1 / (12 : Int32))]) X hp (w_J8_signum e25) q1270 q1271 q147 q1272 1 rfl ds_J8_signum ⟨Nat.le_of_ble_eq_true rfl, Nat.le_of_ble_eq_true rfl⟩ hl.1 rfl (Nat.le_of_ble_eq_true rfl) dX0_isSeen_132 ⟨Nat.le_refl 0, Nat.le_refl 0⟩ (fun H locs hp => ?_)
    refine lv_imul hx hb dX0_isSeen_135 ?_
    exact b_X0_isSeen_136 X _ hk54 _ _ _ _ _ _ _ _ _ _ _ _ _ hp (lv_sub hl [1, 2, 3, 4, 5, 6, 7, 0] rfl) hF
  · have hF := if_n c24 hF
    refine lv_iconst (v := 2) hx hb dX0_isSeen_108 (by decide) ?_
    refine lv_iload hx hb dX0_isSeen_109 (lv_at hl 7 rfl) ?_
    refine lv_imul hx hb dX0_isSeen_111 ?_
    refine lv_iload hx hb dX0_isSeen_112 (lv_at hl 4 rfl) ?_
    refine lv_imul hx hb dX0_isSeen_114 ?_
    refine lv_iload hx hb dX0_isSeen_115 (lv_at hl 5 rfl) ?_
    refine lv_iadd hx hb dX0_isSeen_117 ?_
    refine lv_iconst (v := 2) hx hb dX0_isSeen_118 (by decide) ?_
    refine lv_iload hx hb dX0_isSeen_119 (lv_at hl 5 rfl) ?_
    refine lv_imul hx hb dX0_isSeen_121 ?_
    obtain ⟨v28, e27, hF⟩ := ob_s hF
    refine m_callS (As := [.int ((((2 : Int32) * x7) * x4) + x5), .int ((2 : Int32) * x5)]) (rest := [.int (x1 / (12 : Int32))]) X hp (w_J4_floorDiv e27) q1273 q1274 q141 q1275 2 rfl ds_J4_floorDiv ⟨Nat.le_of_ble_eq_true rfl, Nat.le_of_ble_eq_true rfl⟩ hl.1 rfl (Nat.le_of_ble_eq_true rfl) dX0_isSeen_122 ⟨Nat.le_refl 0, Nat.le_refl 0⟩ (fun H locs hp => ?_)
    refine lv_goto (tgt := 136) hx hb dX0_isSeen_125 (by decide) ?_
    exact b_X0_isSeen_136 X _ hk54 _ _ _ _ _ _ _ _ _ _ _ _ _ hp (lv_sub hl [1, 2, 3, 4, 5, 6, 7, 0] rfl) hF
def fb_X0_isSeen_54 (S : mSh) (M : mMm) : Nat → Nat → Int32 → Int32 → Int32 → Int32 → Int32 → Int32 → Option Int32
  | 0, _, _, _, _, _, _, _ => none
  | t + 1, x0, x1, x3, x4, x5, x6, x7 => (if x5 ≤ x7 then some (1 : Int32) else (if x6 = 0 then ob (f_J4_floorDiv ((((2 : Int32) * x7) * x3) + x5) ((2 : Int32) * x5)) fun v19 => (fb_X0_isSeen_96 S M (fb_X0_isSeen_54 S M t) x0 x1 x3 x4 x5 x6 x7 v19 (x1 - x1 / (12 : Int32) * (12 : Int32))) else ob (f_J8_signum x3) fun v21 => (fb_X0_isSeen_96 S M (fb_X0_isSeen_54 S M t) x0 x1 x3 x4 x5 x6 x7 (x7 * v21) (x1 - x1 / (12 : Int32) * (12 : Int32)))))
theorem b_X0_isSeen_54 {r : Int32} (X : mCx D n0 P p m c cX0_isSeen 10 s args yX0_isSeen.cls meth (some .boolean)) : ∀ t : Nat, ∀ (x0 : Nat) (x1 : Int32) (x3 : Int32) (x4 : Int32) (x5 : Int32) (x6 : Int32) (x7 : Int32) (H : Heap) (locs : List Loc) (ls : Array Slot), mHp D n0 S M n s H locs → lv_has ls 10 [(0, .ref x0), (1, .int x1), (3, .int x3), (4, .int x4), (5, .int x5), (6, .int x6), (7, .int x7)] → fb_X0_isSeen_54 S M t x0 x1 x3 x4 x5 x6 x7 = some r → W p l e Rm_X0_isSeen s m args below meth c H locs 0 0 (MQ below (mQ D n0 (some (.int r)) S M n) args s 0 0 (mA n0)) (F0 m 54 ls []) := by
  have hx := X.1.1
  have hb := X.1.2.1
  have hown := X.1.2.2.2.1
  have hts := X.1.2.2.2.2
  intro t
  induction t with
  | zero =>
    intro x0 x1 x3 x4 x5 x6 x7 H locs ls hp hl hF
    have hF : none = some r := hF
    cases hF
  | succ t ih =>
    intro x0 x1 x3 x4 x5 x6 x7 H locs ls hp hl hF
    rw [fb_X0_isSeen_54] at hF
    refine lv_iload hx hb dX0_isSeen_54 (lv_at hl 6 rfl) ?_
    refine lv_iload hx hb dX0_isSeen_56 (lv_at hl 4 rfl) ?_
    refine lv_icmp_ge (tgt := 167) hx hb dX0_isSeen_58 (by decide) (fun c16 => ?_) (fun c16 => ?_)
    · have hF := if_p c16 hF
      refine lv_iconst (v := 1) hx hb dX0_isSeen_167 (by decide) ?_
      cases hF
      exact m_zret X hp rfl dX0_isSeen_168
    · have hF := if_n c16 hF
      refine lv_iload_n hx hb dX0_isSeen_61 rfl (lv_at hl 1 rfl) ?_
      refine lv_bipush (v := 12) hx hb dX0_isSeen_62 (by decide) ?_
      refine lv_irem hx hb dX0_isSeen_64 (by decide) ?_
      refine lv_iload hx hb dX0_isSeen_65 (lv_at hl 5 rfl) ?_
      refine lv_if_eq (tgt := 80) hx hb dX0_isSeen_67 (by decide) (fun c17 => ?_) (fun c17 => ?_)
      · have hF := if_p c17 hF
        refine lv_iconst (v := 2) hx hb dX0_isSeen_80 (by decide) ?_
        refine lv_iload hx hb dX0_isSeen_81 (lv_at hl 6 rfl) ?_
        refine lv_imul hx hb dX0_isSeen_83 ?_
        refine lv_iload_n hx hb dX0_isSeen_84 rfl (lv_at hl 2 rfl) ?_
        refine lv_imul hx hb dX0_isSeen_85 ?_
        refine lv_iload hx hb dX0_isSeen_86 (lv_at hl 4 rfl) ?_
        refine lv_iadd hx hb dX0_isSeen_88 ?_
        refine lv_iconst (v := 2) hx hb dX0_isSeen_89 (by decide) ?_
        refine lv_iload hx hb dX0_isSeen_90 (lv_at hl 4 rfl) ?_
        refine lv_imul hx hb dX0_isSeen_92 ?_
        obtain ⟨v19, e18, hF⟩ := ob_s hF
        refine m_callS (As := [.int ((((2 : Int32) * x7) * x3) + x5), .int ((2 : Int32) * x5)]) (rest := [.int (x1 - x1 / (12 : Int32) * (12 : Int32))]) X hp (w_J4_floorDiv e18) q1273 q1274 q141 q1275 2 rfl ds_J4_floorDiv ⟨Nat.le_of_ble_eq_true rfl, Nat.le_of_ble_eq_true rfl⟩ hl.1 rfl (Nat.le_of_ble_eq_true rfl) dX0_isSeen_93 ⟨Nat.le_refl 0, Nat.le_refl 0⟩ (fun H locs hp => ?_)
        exact b_X0_isSeen_96 X _ ih _ _ _ _ _ _ _ _ _ _ _ _ hp (lv_sub hl [0, 1, 2, 3, 4, 5, 6] rfl) hF
      · have hF := if_n c17 hF
        refine lv_iload hx hb dX0_isSeen_70 (lv_at hl 6 rfl) ?_
        refine lv_iload_n hx hb dX0_isSeen_72 rfl (lv_at hl 2 rfl) ?_
        obtain ⟨v21, e20, hF⟩ := ob_s hF
        refine m_callS (As := [.int x3]) (rest := [.int x7, .int (x1 - x1 / (12 : Int32) * (12 : Int32))]) X hp (w_J8_signum e20) q1270 q1271 q147 q1272 1 rfl ds_J8_signum ⟨Nat.le_of_ble_eq_true rfl, Nat.le_of_ble_eq_true rfl⟩ hl.1 rfl (Nat.le_of_ble_eq_true rfl) dX0_isSeen_73 ⟨Nat.le_refl 0, Nat.le_refl 0⟩ (fun H locs hp => ?_)
        refine lv_imul hx hb dX0_isSeen_76 ?_
        refine lv_goto (tgt := 96) hx hb dX0_isSeen_77 (by decide) ?_
        exact b_X0_isSeen_96 X _ ih _ _ _ _ _ _ _ _ _ _ _ _ hp (lv_sub hl [0, 1, 2, 3, 4, 5, 6] rfl) hF
def fb_X0_isSeen_49 (S : mSh) (M : mMm) (x0 : Nat) (x1 : Int32) (x3 : Int32) (x4 : Int32) (x5 : Int32) (y0 : Int32) : Option Int32 := nm ((1 : Int32)) fun v14 => (fb_X0_isSeen_54 S M FU x0 x1 x3 x4 x5 y0 v14)
theorem b_X0_isSeen_49 {r : Int32} (X : mCx D n0 P p m c cX0_isSeen 10 s args yX0_isSeen.cls meth (some .boolean)) : ∀ (x0 : Nat) (x1 : Int32) (x3 : Int32) (x4 : Int32) (x5 : Int32) (y0 : Int32) (H : Heap) (locs : List Loc) (ls : Array Slot), mHp D n0 S M n s H locs → lv_has ls 10 [(0, .ref x0), (1, .int x1), (3, .int x3), (4, .int x4), (5, .int x5)] → fb_X0_isSeen_49 S M x0 x1 x3 x4 x5 y0 = some r → W p l e Rm_X0_isSeen s m args below meth c H locs 0 0 (MQ below (mQ D n0 (some (.int r)) S M n) args s 0 0 (mA n0)) (F0 m 49 ls [.int y0]) := by
  have hx := X.1.1
  have hb := X.1.2.1
  have hown := X.1.2.2.2.1
  have hts := X.1.2.2.2.2
  intro x0 x1 x3 x4 x5 y0 H locs ls hp hl hF
  unfold fb_X0_isSeen_49 at hF
  refine lv_istore (lv' := [(6, .int y0), (0, .ref x0), (1, .int x1), (3, .int x3), (4, .int x4), (5, .int x5)]) hx hb dX0_isSeen_49 hl (by decide) rfl (fun ls hl => ?_)
  refine lv_iconst (v := 1) hx hb dX0_isSeen_51 (by decide) ?_
  refine lv_topi (fun v14 ev15 => ?_)
  have hF := nm_s hF ev15
  refine lv_istore (lv' := [(7, .int v14), (6, .int y0), (0, .ref x0), (1, .int x1), (3, .int x3), (4, .int x4), (5, .int x5)]) hx hb dX0_isSeen_52 hl (by decide) rfl (fun ls hl => ?_)
  exact b_X0_isSeen_54 X _ _ _ _ _ _ _ _ _ _ _ hp (lv_sub hl [2, 3, 4, 5, 6, 1, 0] rfl) hF
def f_X0_isSeen (S : mSh) (M : mMm) (x0 : Nat) (x1 : Int32) (x2 : Int32) : Option Int32 := nm (((x2 - x2 / (12 : Int32) * (12 : Int32)) - (x1 - x1 / (12 : Int32) * (12 : Int32)))) fun v1 => nm (((x2 / (12 : Int32)) - (x1 / (12 : Int32)))) fun v3 => ob (f_J4_abs v1) fun v6 => ob (f_J4_abs v3) fun v8 => ob (f_J4_max v6 v8) fun v10 => ob (f_J4_abs v1) fun v12 => (if v12 = v10 then (fb_X0_isSeen_49 S M x0 x1 v1 v3 v10 (1 : Int32)) else (fb_X0_isSeen_49 S M x0 x1 v1 v3 v10 (0 : Int32)))
theorem w_X0_isSeen {x0 : Nat} {x1 : Int32} {x2 : Int32} {r : Int32} (hF : f_X0_isSeen S M x0 x1 x2 = some r) : mCt l D n0 P yX0_isSeen cX0_isSeen 10 (some .boolean) 1 22 0 0 [.ref x0, .int x1, .int x2] S M n (some (.int r)) S M n := by
  refine m_ofW (by decide) (Nat.le_of_ble_eq_true rfl) (fun p e s m below meth c X hnm hp ls hl => ?_)
  have hx := X.1.1
  have hb := X.1.2.1
  have hown := X.1.2.2.2.1
  have hts := X.1.2.2.2.2
  have hl : lv_has ls 10 [(0, .ref x0), (1, .int x1), (2, .int x2)] := hl
  unfold f_X0_isSeen at hF
  refine lv_iload_n hx hb dX0_isSeen_0 rfl (lv_at hl 2 rfl) ?_
  refine lv_bipush (v := 12) hx hb dX0_isSeen_1 (by decide) ?_
  refine lv_irem hx hb dX0_isSeen_3 (by decide) ?_
  refine lv_iload_n hx hb dX0_isSeen_4 rfl (lv_at hl 1 rfl) ?_
  refine lv_bipush (v := 12) hx hb dX0_isSeen_5 (by decide) ?_
  refine lv_irem hx hb dX0_isSeen_7 (by decide) ?_
  refine lv_isub hx hb dX0_isSeen_8 ?_
  refine lv_topi (fun v1 ev2 => ?_)
  have hF := nm_s hF ev2
  refine lv_istore_n (lv' := [(3, .int v1), (0, .ref x0), (1, .int x1), (2, .int x2)]) hx hb dX0_isSeen_9 rfl hl (by decide) rfl (fun ls hl => ?_)
  refine lv_iload_n hx hb dX0_isSeen_10 rfl (lv_at hl 3 rfl) ?_
  refine lv_bipush (v := 12) hx hb dX0_isSeen_11 (by decide) ?_
  refine lv_idiv hx hb dX0_isSeen_13 (by decide) ?_
  refine lv_iload_n hx hb dX0_isSeen_14 rfl (lv_at hl 2 rfl) ?_
  refine lv_bipush (v := 12) hx hb dX0_isSeen_15 (by decide) ?_
  refine lv_idiv hx hb dX0_isSeen_17 (by decide) ?_
  refine lv_isub hx hb dX0_isSeen_18 ?_
  refine lv_topi (fun v3 ev4 => ?_)
  have hF := nm_s hF ev4
  refine lv_istore (lv' := [(4, .int v3), (3, .int v1), (0, .ref x0), (1, .int x1), (2, .int x2)]) hx hb dX0_isSeen_19 hl (by decide) rfl (fun ls hl => ?_)
  refine lv_iload_n hx hb dX0_isSeen_21 rfl (lv_at hl 1 rfl) ?_
  obtain ⟨v6, e5, hF⟩ := ob_s hF
  refine m_callS (As := [.int v1]) (rest := []) X hp (w_J4_abs e5) q1267 q1268 q141 q1269 1 rfl ds_J4_abs ⟨Nat.le_of_ble_eq_true rfl, Nat.le_of_ble_eq_true rfl⟩ hl.1 rfl (Nat.le_of_ble_eq_true rfl) dX0_isSeen_22 ⟨Nat.le_refl 0, Nat.le_refl 0⟩ (fun H locs hp => ?_)
  refine lv_iload hx hb dX0_isSeen_25 (lv_at hl 0 rfl) ?_
  obtain ⟨v8, e7, hF⟩ := ob_s hF
  refine m_callS (As := [.int v3]) (rest := [.int v6]) X hp (w_J4_abs e7) q1267 q1268 q141 q1269 1 rfl ds_J4_abs ⟨Nat.le_of_ble_eq_true rfl, Nat.le_of_ble_eq_true rfl⟩ hl.1 rfl (Nat.le_of_ble_eq_true rfl) dX0_isSeen_27 ⟨Nat.le_refl 0, Nat.le_refl 0⟩ (fun H locs hp => ?_)
  obtain ⟨v10, e9, hF⟩ := ob_s hF
  refine m_callS (As := [.int v6, .int v8]) (rest := []) X hp (w_J4_max e9) q1170 q333 q141 q334 2 rfl ds_J4_max ⟨Nat.le_of_ble_eq_true rfl, Nat.le_of_ble_eq_true rfl⟩ hl.1 rfl (Nat.le_of_ble_eq_true rfl) dX0_isSeen_30 ⟨Nat.le_refl 0, Nat.le_refl 0⟩ (fun H locs hp => ?_)
  refine lv_istore (lv' := [(5, .int v10), (4, .int v3), (3, .int v1), (0, .ref x0), (1, .int x1), (2, .int x2)]) hx hb dX0_isSeen_33 hl (by decide) rfl (fun ls hl => ?_)
  refine lv_iload_n hx hb dX0_isSeen_35 rfl (lv_at hl 2 rfl) ?_
  obtain ⟨v12, e11, hF⟩ := ob_s hF
  refine m_callS (As := [.int v1]) (rest := []) X hp (w_J4_abs e11) q1267 q1268 q141 q1269 1 rfl ds_J4_abs ⟨Nat.le_of_ble_eq_true rfl, Nat.le_of_ble_eq_true rfl⟩ hl.1 rfl (Nat.le_of_ble_eq_true rfl) dX0_isSeen_36 ⟨Nat.le_refl 0, Nat.le_refl 0⟩ (fun H locs hp => ?_)
  refine lv_iload hx hb dX0_isSeen_39 (lv_at hl 0 rfl) ?_
  refine lv_icmp_ne (tgt := 48) hx hb dX0_isSeen_41 (by decide) (fun c13 => ?_) (fun c13 => ?_)
  · have hF := if_n c13 hF
    refine lv_iconst (v := 0) hx hb dX0_isSeen_48 (by decide) ?_
    exact b_X0_isSeen_49 X _ _ _ _ _ _ _ _ _ hp (lv_sub hl [3, 4, 2, 1, 0] rfl) hF
  · have hF := if_p c13 hF
    refine lv_iconst (v := 1) hx hb dX0_isSeen_44 (by decide) ?_
    refine lv_goto (tgt := 49) hx hb dX0_isSeen_45 (by decide) ?_
    exact b_X0_isSeen_49 X _ _ _ _ _ _ _ _ _ hp (lv_sub hl [3, 4, 2, 1, 0] rfl) hF
end
section
variable {l : Launch} {D : va_G} {n0 : Nat} {P : mP} {S : mSh} {M : mMm} {n : Nat} {p : Program} {e : Env} {s : State} {m : MethodId} {args : Array Value} {below : List Frame} {meth : Method} {c : Code}
abbrev Rm_X0_known : Room := { frames := 1, cells := 0, slots := 0, locals := 22 }
def f_X0_known (S : mSh) (M : mMm) (x0 : Nat) (x1 : Int32) (x2 : Int32) : Option (Int32 × mMm) := ob (f_X0_isIn x1 (0 : Int32) (1 : Int32)) fun v2 => (if v2 = 0 then some ((-1 : Int32), M) else (if x2 = (-1 : Int32) then ob (rR S M x0 1 4) fun v18 => ob (rR S M v18 2 4) fun v20 => ob (aR S M v20 105 x1) fun v22 => gd ((S v22).1 = 4) (ob (f_X3_ends S M v22) fun ⟨v26, M27⟩ => some (v26, M27)) else ob (f_X0_isIn x2 (0 : Int32) (2 : Int32)) fun v6 => (if v6 = 0 then some ((-1 : Int32), M) else ob (rR S M x0 1 4) fun v8 => ob (rR S M v8 2 4) fun v10 => ob (aR S M v10 105 x1) fun v12 => gd ((S v12).1 = 4) (ob (f_X3_tells S M v12 x2 (0 : Int32)) fun ⟨v16, M17⟩ => some (v16, M17)))))
theorem w_X0_known {x0 : Nat} {x1 : Int32} {x2 : Int32} {r : Int32} {M' : mMm} (hF : f_X0_known S M x0 x1 x2 = some (r, M')) : mCt l D n0 P yX0_known cX0_known 3 (some .int) 1 22 0 0 [.ref x0, .int x1, .int x2] S M n (some (.int r)) S M' n := by
  refine m_ofW (by decide) (Nat.le_of_ble_eq_true rfl) (fun p e s m below meth c X hnm hp ls hl => ?_)
  have hx := X.1.1
  have hb := X.1.2.1
  have hown := X.1.2.2.2.1
  have hts := X.1.2.2.2.2
  have hl : lv_has ls 3 [(0, .ref x0), (1, .int x1), (2, .int x2)] := hl
  unfold f_X0_known at hF
  refine lv_iload_n hx hb dX0_known_0 rfl (lv_at hl 1 rfl) ?_
  refine lv_iconst (v := 0) hx hb dX0_known_1 (by decide) ?_
  refine lv_iconst (v := 1) hx hb dX0_known_2 (by decide) ?_
  obtain ⟨v2, e1, hF⟩ := ob_s hF
  refine m_callS (As := [.int x1, .int (0 : Int32), .int (1 : Int32)]) (rest := []) X hp (w_X0_isIn e1) q565 q566 q132 q567 3 rfl ds_X0_isIn ⟨Nat.le_of_ble_eq_true rfl, Nat.le_of_ble_eq_true rfl⟩ hl.1 rfl (Nat.le_of_ble_eq_true rfl) dX0_known_3 ⟨Nat.le_refl 0, Nat.le_refl 0⟩ (fun H locs hp => ?_)
  refine lv_if_ne (tgt := 13) hx hb dX0_known_6 (by decide) (fun c3 => ?_) (fun c3 => ?_)
  · have hF := if_n c3 hF
    refine lv_iload_n hx hb dX0_known_13 rfl (lv_at hl 2 rfl) ?_
    refine lv_iconst (v := -1) hx hb dX0_known_14 (by decide) ?_
    refine lv_icmp_ne (tgt := 33) hx hb dX0_known_15 (by decide) (fun c4 => ?_) (fun c4 => ?_)
    · have hF := if_n c4 hF
      refine lv_iload_n hx hb dX0_known_33 rfl (lv_at hl 2 rfl) ?_
      refine lv_iconst (v := 0) hx hb dX0_known_34 (by decide) ?_
      refine lv_iconst (v := 2) hx hb dX0_known_35 (by decide) ?_
      obtain ⟨v6, e5, hF⟩ := ob_s hF
      refine m_callS (As := [.int x2, .int (0 : Int32), .int (2 : Int32)]) (rest := []) X hp (w_X0_isIn e5) q565 q566 q132 q567 3 rfl ds_X0_isIn ⟨Nat.le_of_ble_eq_true rfl, Nat.le_of_ble_eq_true rfl⟩ hl.1 rfl (Nat.le_of_ble_eq_true rfl) dX0_known_36 ⟨Nat.le_refl 0, Nat.le_refl 0⟩ (fun H locs hp => ?_)
      refine lv_if_eq (tgt := 59) hx hb dX0_known_39 (by decide) (fun c7 => ?_) (fun c7 => ?_)
      · have hF := if_p c7 hF
        refine lv_iconst (v := -1) hx hb dX0_known_59 (by decide) ?_
        cases hF
        exact m_iret X hp dX0_known_60
      · have hF := if_n c7 hF
        refine lv_aload_n hx hb dX0_known_42 rfl (lv_at hl 0 rfl) ?_
        obtain ⟨v8, e9, hF⟩ := ob_s hF
        refine m_getR X hp e9 kX0 (Nat.le_of_ble_eq_true rfl) q463 dX0_known_43 ?_
        obtain ⟨v10, e11, hF⟩ := ob_s hF
        refine m_getRN X hp e11 kX1 (Nat.le_of_ble_eq_true rfl) q384 dX0_known_46 ?_
        refine lv_iload_n hx hb dX0_known_49 rfl (lv_at hl 1 rfl) ?_
        obtain ⟨v12, e13, hF⟩ := ob_s hF
        refine m_aaR 105 X hp e13 rfl (by decide) rfl dX0_known_50 ?_
        refine lv_iload_n hx hb dX0_known_51 rfl (lv_at hl 2 rfl) ?_
        refine lv_iconst (v := 0) hx hb dX0_known_52 (by decide) ?_
        obtain ⟨g14, hF⟩ := gd_s hF
        obtain ⟨⟨v16, M17⟩, e15, hF⟩ := ob_s hF
        refine m_callV (As := [.int x2, .int (0 : Int32)]) (rest := []) X hp (w_X3_tells e15) q1284 q1285 q1286 q135 q1287 2 rfl ds_X3_tells ⟨Nat.le_of_ble_eq_true rfl, Nat.le_of_ble_eq_true rfl⟩ 4 (T := TX3) (N := 2) rfl (by decide) g14 hl.1 rfl (Nat.le_of_ble_eq_true rfl) dX0_known_53 ⟨Nat.le_refl 0, Nat.le_refl 0⟩ (fun H locs hp => ?_)
        refine lv_goto (tgt := 60) hx hb dX0_known_56 (by decide) ?_
        cases hF
        exact m_iret X hp dX0_known_60
    · have hF := if_p c4 hF
      refine lv_aload_n hx hb dX0_known_18 rfl (lv_at hl 0 rfl) ?_
      obtain ⟨v18, e19, hF⟩ := ob_s hF
      refine m_getR X hp e19 kX0 (Nat.le_of_ble_eq_true rfl) q463 dX0_known_19 ?_
      obtain ⟨v20, e21, hF⟩ := ob_s hF
      refine m_getRN X hp e21 kX1 (Nat.le_of_ble_eq_true rfl) q384 dX0_known_22 ?_
      refine lv_iload_n hx hb dX0_known_25 rfl (lv_at hl 1 rfl) ?_
      obtain ⟨v22, e23, hF⟩ := ob_s hF
      refine m_aaR 105 X hp e23 rfl (by decide) rfl dX0_known_26 ?_
      obtain ⟨g24, hF⟩ := gd_s hF
      obtain ⟨⟨v26, M27⟩, e25, hF⟩ := ob_s hF
      refine m_callV (As := []) (rest := []) X hp (w_X3_ends e25) q1280 q1281 q1282 q135 q1283 0 rfl ds_X3_ends ⟨Nat.le_of_ble_eq_true rfl, Nat.le_of_ble_eq_true rfl⟩ 4 (T := TX3) (N := 2) rfl (by decide) g24 hl.1 rfl (Nat.le_of_ble_eq_true rfl) dX0_known_27 ⟨Nat.le_refl 0, Nat.le_refl 0⟩ (fun H locs hp => ?_)
      refine lv_goto (tgt := 60) hx hb dX0_known_30 (by decide) ?_
      cases hF
      exact m_iret X hp dX0_known_60
  · have hF := if_p c3 hF
    refine lv_iconst (v := -1) hx hb dX0_known_9 (by decide) ?_
    refine lv_goto (tgt := 60) hx hb dX0_known_10 (by decide) ?_
    cases hF
    exact m_iret X hp dX0_known_60
end
section
variable {l : Launch} {D : va_G} {n0 : Nat} {P : mP} {S : mSh} {M : mMm} {n : Nat} {p : Program} {e : Env} {s : State} {m : MethodId} {args : Array Value} {below : List Frame} {meth : Method} {c : Code}
abbrev Rm_X0_lay : Room := { frames := 6, cells := 0, slots := 0, locals := 126 }
def fb_X0_lay_61 (S : mSh) (M : mMm) (x0 : Nat) (x3 : Int32) (x4 : Int32) : Option (Int32 × mMm) := gd ((S x0).1 = 1) (ob (f_X0_remembers S M x0) fun ⟨v25, M26⟩ => ob (rR S M26 x0 1 4) fun v27 => ob (rR S M26 v27 2 0) fun v29 => ob (wA S M26 v29 100 x4 (.int x3)) fun M31 => some ((1 : Int32), M31))
theorem b_X0_lay_61 {r : Int32} {M' : mMm} (X : mCx D n0 P p m c cX0_lay 5 s args yX0_lay.cls meth (some .boolean)) : ∀ (M : mMm) (x0 : Nat) (x3 : Int32) (x4 : Int32) (H : Heap) (locs : List Loc) (ls : Array Slot), mHp D n0 S M n s H locs → lv_has ls 5 [(0, .ref x0), (3, .int x3), (4, .int x4)] → fb_X0_lay_61 S M x0 x3 x4 = some (r, M') → W p l e Rm_X0_lay s m args below meth c H locs 0 0 (MQ below (mQ D n0 (some (.int r)) S M' n) args s 0 0 (mA n0)) (F0 m 61 ls []) := by
  have hx := X.1.1
  have hb := X.1.2.1
  have hown := X.1.2.2.2.1
  have hts := X.1.2.2.2.2
  intro M x0 x3 x4 H locs ls hp hl hF
  unfold fb_X0_lay_61 at hF
  refine lv_aload_n hx hb dX0_lay_61 rfl (lv_at hl 0 rfl) ?_
  obtain ⟨g23, hF⟩ := gd_s hF
  obtain ⟨⟨v25, M26⟩, e24, hF⟩ := ob_s hF
  refine m_callV (As := []) (rest := []) X hp (w_X0_remembers e24) q1032 q1034 qs31 q132 q1035 0 rfl ds_X0_remembers ⟨Nat.le_of_ble_eq_true rfl, Nat.le_of_ble_eq_true rfl⟩ 1 (T := TX0) (N := 30) rfl (by decide) g23 hl.1 rfl (Nat.le_of_ble_eq_true rfl) dX0_lay_62 ⟨Nat.le_refl 0, Nat.le_refl 0⟩ (fun H locs hp => ?_)
  refine lv_pop hx hb dX0_lay_65 rfl ?_
  refine lv_aload_n hx hb dX0_lay_66 rfl (lv_at hl 0 rfl) ?_
  obtain ⟨v27, e28, hF⟩ := ob_s hF
  refine m_getR X hp e28 kX0 (Nat.le_of_ble_eq_true rfl) q463 dX0_lay_67 ?_
  obtain ⟨v29, e30, hF⟩ := ob_s hF
  refine m_getRN X hp e30 kX1 (Nat.le_of_ble_eq_true rfl) q376 dX0_lay_70 ?_
  refine lv_iload hx hb dX0_lay_73 (lv_at hl 2 rfl) ?_
  refine lv_iload_n hx hb dX0_lay_75 rfl (lv_at hl 1 rfl) ?_
  obtain ⟨M31, e32, hF⟩ := ob_s hF
  refine m_iaW X hp e32 dX0_lay_76 (fun H locs hp => ?_)
  refine lv_iconst (v := 1) hx hb dX0_lay_77 (by decide) ?_
  cases hF
  exact m_zret X hp rfl dX0_lay_78
def f_X0_lay (S : mSh) (M : mMm) (x0 : Nat) (x1 : Int32) (x2 : Int32) (x3 : Int32) : Option (Int32 × mMm) := ob (f_X0_isCell x1 x2) fun v2 => (if v2 = 0 then some ((0 : Int32), M) else ob (f_X0_isIn x3 (0 : Int32) (3 : Int32)) fun v5 => (if v5 = 0 then some ((0 : Int32), M) else nm ((((12 : Int32) * x2) + x1)) fun v7 => ob (rR S M x0 1 4) fun v9 => ob (rR S M v9 2 0) fun v11 => ob (aI S M v11 100 v7) fun v13 => (if v13 = x3 then some ((0 : Int32), M) else (if x3 = (1 : Int32) then ob (rR S M x0 1 4) fun v17 => gd ((S v17).1 = 2) (ob (f_X1_standing S M v17 v7) fun v21 => (if v21 = (-1 : Int32) then (fb_X0_lay_61 S M x0 x3 v7) else some ((0 : Int32), M))) else (fb_X0_lay_61 S M x0 x3 v7)))))
theorem w_X0_lay {x0 : Nat} {x1 : Int32} {x2 : Int32} {x3 : Int32} {r : Int32} {M' : mMm} (hF : f_X0_lay S M x0 x1 x2 x3 = some (r, M')) : mCt l D n0 P yX0_lay cX0_lay 5 (some .boolean) 6 126 0 0 [.ref x0, .int x1, .int x2, .int x3] S M n (some (.int r)) S M' n := by
  refine m_ofW (by decide) (Nat.le_of_ble_eq_true rfl) (fun p e s m below meth c X hnm hp ls hl => ?_)
  have hx := X.1.1
  have hb := X.1.2.1
  have hown := X.1.2.2.2.1
  have hts := X.1.2.2.2.2
  have hl : lv_has ls 5 [(0, .ref x0), (1, .int x1), (2, .int x2), (3, .int x3)] := hl
  unfold f_X0_lay at hF
  refine lv_iload_n hx hb dX0_lay_0 rfl (lv_at hl 1 rfl) ?_
  refine lv_iload_n hx hb dX0_lay_1 rfl (lv_at hl 2 rfl) ?_
  obtain ⟨v2, e1, hF⟩ := ob_s hF
  refine m_callS (As := [.int x1, .int x2]) (rest := []) X hp (w_X0_isCell e1) q1068 q1069 q132 q1070 2 rfl ds_X0_isCell ⟨Nat.le_of_ble_eq_true rfl, Nat.le_of_ble_eq_true rfl⟩ hl.1 rfl (Nat.le_of_ble_eq_true rfl) dX0_lay_2 ⟨Nat.le_refl 0, Nat.le_refl 0⟩ (fun H locs hp => ?_)
  refine lv_if_eq (tgt := 17) hx hb dX0_lay_5 (by decide) (fun c3 => ?_) (fun c3 => ?_)
  · have hF := if_p c3 hF
    refine lv_iconst (v := 0) hx hb dX0_lay_17 (by decide) ?_
    cases hF
    exact m_zret X hp rfl dX0_lay_18
  · have hF := if_n c3 hF
    refine lv_iload_n hx hb dX0_lay_8 rfl (lv_at hl 3 rfl) ?_
    refine lv_iconst (v := 0) hx hb dX0_lay_9 (by decide) ?_
    refine lv_iconst (v := 3) hx hb dX0_lay_10 (by decide) ?_
    obtain ⟨v5, e4, hF⟩ := ob_s hF
    refine m_callS (As := [.int x3, .int (0 : Int32), .int (3 : Int32)]) (rest := []) X hp (w_X0_isIn e4) q565 q566 q132 q567 3 rfl ds_X0_isIn ⟨Nat.le_of_ble_eq_true rfl, Nat.le_of_ble_eq_true rfl⟩ hl.1 rfl (Nat.le_of_ble_eq_true rfl) dX0_lay_11 ⟨Nat.le_refl 0, Nat.le_refl 0⟩ (fun H locs hp => ?_)
    refine lv_if_ne (tgt := 19) hx hb dX0_lay_14 (by decide) (fun c6 => ?_) (fun c6 => ?_)
    · have hF := if_n c6 hF
      refine lv_bipush (v := 12) hx hb dX0_lay_19 (by decide) ?_
      refine lv_iload_n hx hb dX0_lay_21 rfl (lv_at hl 2 rfl) ?_
      refine lv_imul hx hb dX0_lay_22 ?_
      refine lv_iload_n hx hb dX0_lay_23 rfl (lv_at hl 1 rfl) ?_
      refine lv_iadd hx hb dX0_lay_24 ?_
      refine lv_topi (fun v7 ev8 => ?_)
      have hF := nm_s hF ev8
      refine lv_istore (lv' := [(4, .int v7), (0, .ref x0), (1, .int x1), (2, .int x2), (3, .int x3)]) hx hb dX0_lay_25 hl (by decide) rfl (fun ls hl => ?_)
      refine lv_aload_n hx hb dX0_lay_27 rfl (lv_at hl 1 rfl) ?_
      obtain ⟨v9, e10, hF⟩ := ob_s hF
      refine m_getR X hp e10 kX0 (Nat.le_of_ble_eq_true rfl) q463 dX0_lay_28 ?_
      obtain ⟨v11, e12, hF⟩ := ob_s hF
      refine m_getRN X hp e12 kX1 (Nat.le_of_ble_eq_true rfl) q376 dX0_lay_31 ?_
      refine lv_iload hx hb dX0_lay_34 (lv_at hl 0 rfl) ?_
      obtain ⟨v13, e14, hF⟩ := ob_s hF
      refine m_iaI X hp e14 dX0_lay_36 ?_
      refine lv_iload_n hx hb dX0_lay_37 rfl (lv_at hl 4 rfl) ?_
      refine lv_icmp_eq (tgt := 59) hx hb dX0_lay_38 (by decide) (fun c15 => ?_) (fun c15 => ?_)
      · have hF := if_p c15 hF
        refine lv_iconst (v := 0) hx hb dX0_lay_59 (by decide) ?_
        cases hF
        exact m_zret X hp rfl dX0_lay_60
      · have hF := if_n c15 hF
        refine lv_iload_n hx hb dX0_lay_41 rfl (lv_at hl 4 rfl) ?_
        refine lv_iconst (v := 1) hx hb dX0_lay_42 (by decide) ?_
        refine lv_icmp_ne (tgt := 61) hx hb dX0_lay_43 (by decide) (fun c16 => ?_) (fun c16 => ?_)
        · have hF := if_n c16 hF
          exact b_X0_lay_61 X _ _ _ _ _ _ _ hp (lv_sub hl [1, 4, 0] rfl) hF
        · have hF := if_p c16 hF
          refine lv_aload_n hx hb dX0_lay_46 rfl (lv_at hl 1 rfl) ?_
          obtain ⟨v17, e18, hF⟩ := ob_s hF
          refine m_getR X hp e18 kX0 (Nat.le_of_ble_eq_true rfl) q463 dX0_lay_47 ?_
          refine lv_iload hx hb dX0_lay_50 (lv_at hl 0 rfl) ?_
          obtain ⟨g19, hF⟩ := gd_s hF
          obtain ⟨v21, e20, hF⟩ := ob_s hF
          refine m_callV (As := [.int v7]) (rest := []) X hp (w_X1_standing e20) q1071 q1029 q1030 q133 q1031 1 rfl ds_X1_standing ⟨Nat.le_of_ble_eq_true rfl, Nat.le_of_ble_eq_true rfl⟩ 2 (T := TX1) (N := 19) rfl (by decide) g19 hl.1 rfl (Nat.le_of_ble_eq_true rfl) dX0_lay_52 ⟨Nat.le_refl 0, Nat.le_refl 0⟩ (fun H locs hp => ?_)
          refine lv_iconst (v := -1) hx hb dX0_lay_55 (by decide) ?_
          refine lv_icmp_eq (tgt := 61) hx hb dX0_lay_56 (by decide) (fun c22 => ?_) (fun c22 => ?_)
          · have hF := if_p c22 hF
            exact b_X0_lay_61 X _ _ _ _ _ _ _ hp (lv_sub hl [1, 4, 0] rfl) hF
          · have hF := if_n c22 hF
            refine lv_iconst (v := 0) hx hb dX0_lay_59 (by decide) ?_
            cases hF
            exact m_zret X hp rfl dX0_lay_60
    · have hF := if_p c6 hF
      refine lv_iconst (v := 0) hx hb dX0_lay_17 (by decide) ?_
      cases hF
      exact m_zret X hp rfl dX0_lay_18
end
section
variable {l : Launch} {D : va_G} {n0 : Nat} {P : mP} {S : mSh} {M : mMm} {n : Nat} {p : Program} {e : Env} {s : State} {m : MethodId} {args : Array Value} {below : List Frame} {meth : Method} {c : Code}
abbrev Rm_X0_look : Room := { frames := 2, cells := 0, slots := 0, locals := 42 }
def fb_X0_look_138 (S : mSh) (M : mMm) (k113 : Int32 → Nat → Int32 → Int32 → Option Int32) (x3 : Nat) (x4 : Int32) (x5 : Int32) (y0 : Int32) (y1 : Int32) : Option Int32 := nm ((y1 + y0)) fun v76 => nm (x5 + (1 : Int32)) fun v78 => (k113 v76 x3 x4 v78)
theorem b_X0_look_138 {r : Int32} (X : mCx D n0 P p m c cX0_look 7 s args yX0_look.cls meth (some .int)) (k113 : Int32 → Nat → Int32 → Int32 → Option Int32) (hk113 : ∀ (x2 : Int32) (x3 : Nat) (x4 : Int32) (x5 : Int32) (H : Heap) (locs : List Loc) (ls : Array Slot), mHp D n0 S M n s H locs → lv_has ls 7 [(2, .int x2), (3, .ref x3), (4, .int x4), (5, .int x5)] → k113 x2 x3 x4 x5 = some r → W p l e Rm_X0_look s m args below meth c H locs 0 0 (MQ below (mQ D n0 (some (.int r)) S M n) args s 0 0 (mA n0)) (F0 m 113 ls [])) : ∀ (x3 : Nat) (x4 : Int32) (x5 : Int32) (y0 : Int32) (y1 : Int32) (H : Heap) (locs : List Loc) (ls : Array Slot), mHp D n0 S M n s H locs → lv_has ls 7 [(3, .ref x3), (4, .int x4), (5, .int x5)] → fb_X0_look_138 S M k113 x3 x4 x5 y0 y1 = some r → W p l e Rm_X0_look s m args below meth c H locs 0 0 (MQ below (mQ D n0 (some (.int r)) S M n) args s 0 0 (mA n0)) (F0 m 138 ls [.int y0, .int y1]) := by
  have hx := X.1.1
  have hb := X.1.2.1
  have hown := X.1.2.2.2.1
  have hts := X.1.2.2.2.2
  intro x3 x4 x5 y0 y1 H locs ls hp hl hF
  unfold fb_X0_look_138 at hF
  refine lv_iadd hx hb dX0_look_138 ?_
  refine lv_topi (fun v76 ev77 => ?_)
  have hF := nm_s hF ev77
  refine lv_istore_n (lv' := [(2, .int v76), (3, .ref x3), (4, .int x4), (5, .int x5)]) hx hb dX0_look_139 rfl hl (by decide) rfl (fun ls hl => ?_)
  obtain ⟨v78, ev79⟩ : ∃ y : Int32, y = x5 + (1 : Int32) := ⟨_, rfl⟩
  have hF := nm_s hF ev79
  refine lv_iinc (v := v78) (lv' := [(5, .int v78), (2, .int v76), (3, .ref x3), (4, .int x4)]) hx hb dX0_look_140 hl (k := 3) rfl (by rw [ev79]; rfl) (by decide) rfl (fun ls hl => ?_)
  refine lv_goto (tgt := 113) hx hb dX0_look_143 (by decide) ?_
  exact hk113 _ _ _ _ _ _ _ hp (lv_sub hl [1, 2, 3, 0] rfl) hF
def fb_X0_look_113 (S : mSh) (M : mMm) : Nat → Int32 → Nat → Int32 → Int32 → Option Int32
  | 0, _, _, _, _ => none
  | t + 1, x2, x3, x4, x5 => (if x4 ≤ x5 then some x2 else ob (aI S M x3 100 x5) fun v73 => (if v73 = (1 : Int32) then (fb_X0_look_138 S M (fb_X0_look_113 S M t) x3 x4 x5 (1 : Int32) x2) else (fb_X0_look_138 S M (fb_X0_look_113 S M t) x3 x4 x5 (0 : Int32) x2)))
theorem b_X0_look_113 {r : Int32} (X : mCx D n0 P p m c cX0_look 7 s args yX0_look.cls meth (some .int)) : ∀ t : Nat, ∀ (x2 : Int32) (x3 : Nat) (x4 : Int32) (x5 : Int32) (H : Heap) (locs : List Loc) (ls : Array Slot), mHp D n0 S M n s H locs → lv_has ls 7 [(2, .int x2), (3, .ref x3), (4, .int x4), (5, .int x5)] → fb_X0_look_113 S M t x2 x3 x4 x5 = some r → W p l e Rm_X0_look s m args below meth c H locs 0 0 (MQ below (mQ D n0 (some (.int r)) S M n) args s 0 0 (mA n0)) (F0 m 113 ls []) := by
  have hx := X.1.1
  have hb := X.1.2.1
  have hown := X.1.2.2.2.1
  have hts := X.1.2.2.2.2
  intro t
  induction t with
  | zero =>
    intro x2 x3 x4 x5 H locs ls hp hl hF
    have hF : none = some r := hF
    cases hF
  | succ t ih =>
    intro x2 x3 x4 x5 H locs ls hp hl hF
    rw [fb_X0_look_113] at hF
    refine lv_iload hx hb dX0_look_113 (lv_at hl 3 rfl) ?_
    refine lv_iload hx hb dX0_look_115 (lv_at hl 2 rfl) ?_
    refine lv_icmp_ge (tgt := 146) hx hb dX0_look_117 (by decide) (fun c72 => ?_) (fun c72 => ?_)
    · have hF := if_p c72 hF
      refine lv_iload_n hx hb dX0_look_146 rfl (lv_at hl 0 rfl) ?_
      cases hF
      exact m_iret X hp dX0_look_147
    · have hF := if_n c72 hF
      refine lv_aload_n hx hb dX0_look_120 rfl (lv_at hl 1 rfl) ?_
      refine lv_iload hx hb dX0_look_121 (lv_at hl 3 rfl) ?_
      obtain ⟨v73, e74, hF⟩ := ob_s hF
      refine m_iaI X hp e74 dX0_look_123 ?_
      refine lv_istore (lv' := [(6, .int v73), (2, .int x2), (3, .ref x3), (4, .int x4), (5, .int x5)]) hx hb dX0_look_124 hl (by decide) rfl (fun ls hl => ?_)
      refine lv_iload_n hx hb dX0_look_126 rfl (lv_at hl 1 rfl) ?_
      refine lv_iload hx hb dX0_look_127 (lv_at hl 0 rfl) ?_
      refine lv_iconst (v := 1) hx hb dX0_look_129 (by decide) ?_
      refine lv_icmp_ne (tgt := 137) hx hb dX0_look_130 (by decide) (fun c75 => ?_) (fun c75 => ?_)
      · have hF := if_n c75 hF
        refine lv_iconst (v := 0) hx hb dX0_look_137 (by decide) ?_
        exact b_X0_look_138 X _ ih _ _ _ _ _ _ _ _ hp (lv_sub hl [2, 3, 4] rfl) hF
      · have hF := if_p c75 hF
        refine lv_iconst (v := 1) hx hb dX0_look_133 (by decide) ?_
        refine lv_goto (tgt := 138) hx hb dX0_look_134 (by decide) ?_
        exact b_X0_look_138 X _ ih _ _ _ _ _ _ _ _ hp (lv_sub hl [2, 3, 4] rfl) hF
def f_X0_look (S : mSh) (M : mMm) (x0 : Nat) (x1 : Int32) : Option Int32 := (if x1 = (0 : Int32) then ob (rR S M x0 1 4) fun v2 => ob (rI S M v2 2 10) fun v4 => some v4 else (if x1 = (1 : Int32) then ob (rR S M x0 1 4) fun v7 => gd ((S v7).1 = 2) (ob (f_X1_inside S M v7) fun v11 => some v11) else (if x1 = (2 : Int32) then ob (rR S M x0 1 4) fun v13 => ob (rI S M v13 2 11) fun v15 => some v15 else (if x1 = (3 : Int32) then ob (rR S M x0 1 4) fun v18 => ob (rI S M v18 2 12) fun v20 => some v20 else (if x1 = (4 : Int32) then nm ((0 : Int32)) fun v23 => ob (rR S M x0 1 4) fun v25 => ob (rR S M v25 2 0) fun v27 => ob (aN S v27 100) fun v29 => nm ((0 : Int32)) fun v31 => (fb_X0_look_113 S M FU v23 v27 v29 v31) else (if x1 = (5 : Int32) then ob (rR S M x0 1 4) fun v34 => ob (rI S M v34 2 14) fun v36 => some v36 else (if x1 = (6 : Int32) then ob (rR S M x0 1 4) fun v39 => ob (rI S M v39 2 13) fun v41 => some v41 else (if x1 = (7 : Int32) then ob (rR S M x0 1 4) fun v44 => ob (rR S M v44 2 7) fun v46 => gd ((S v46).1 = 15) (ob (f_J2_size S M v46) fun v50 => some v50) else (if x1 = (8 : Int32) then ob (rR S M x0 1 4) fun v52 => ob (rI S M v52 2 15) fun v54 => some v54 else (if x1 = (9 : Int32) then ob (rR S M x0 1 4) fun v57 => ob (rI S M v57 2 16) fun v59 => some v59 else (if x1 = (10 : Int32) then ob (rR S M x0 1 4) fun v62 => ob (rR S M v62 2 9) fun v64 => gd ((S v64).1 = 15) (ob (f_J2_size S M v64) fun v68 => some v68) else (if x1 = (11 : Int32) then ob (rI S M x0 1 8) fun v70 => some v70 else some (-1 : Int32)))))))))))))
theorem w_X0_look {x0 : Nat} {x1 : Int32} {r : Int32} (hF : f_X0_look S M x0 x1 = some r) : mCt l D n0 P yX0_look cX0_look 7 (some .int) 2 42 0 0 [.ref x0, .int x1] S M n (some (.int r)) S M n := by
  refine m_ofW (by decide) (Nat.le_of_ble_eq_true rfl) (fun p e s m below meth c X hnm hp ls hl => ?_)
  have hx := X.1.1
  have hb := X.1.2.1
  have hown := X.1.2.2.2.1
  have hts := X.1.2.2.2.2
  have hl : lv_has ls 7 [(0, .ref x0), (1, .int x1)] := hl
  unfold f_X0_look at hF
  refine lv_iload_n hx hb dX0_look_0 rfl (lv_at hl 1 rfl) ?_
  by_cases c1 : x1 = (0 : Int32)
  · have hF := if_p c1 hF
    refine lv_tableIn (x := x1) (tgt := 64) hx hb dX0_look_1 (by rw [c1]; decide) (by rw [c1]; decide) (by rw [c1]; rfl) (by decide) ?_
    refine lv_aload_n hx hb dX0_look_64 rfl (lv_at hl 0 rfl) ?_
    obtain ⟨v2, e3, hF⟩ := ob_s hF
    refine m_getR X hp e3 kX0 (Nat.le_of_ble_eq_true rfl) q463 dX0_look_65 ?_
    obtain ⟨v4, e5, hF⟩ := ob_s hF
    refine m_getIN X hp e5 kX1 (Nat.le_of_ble_eq_true rfl) q396 dX0_look_68 ?_
    cases hF
    exact m_iret X hp dX0_look_71
  · have hF := if_n c1 hF
    by_cases c6 : x1 = (1 : Int32)
    · have hF := if_p c6 hF
      refine lv_tableIn (x := x1) (tgt := 72) hx hb dX0_look_1 (by rw [c6]; decide) (by rw [c6]; decide) (by rw [c6]; rfl) (by decide) ?_
      refine lv_aload_n hx hb dX0_look_72 rfl (lv_at hl 0 rfl) ?_
      obtain ⟨v7, e8, hF⟩ := ob_s hF
      refine m_getR X hp e8 kX0 (Nat.le_of_ble_eq_true rfl) q463 dX0_look_73 ?_
      obtain ⟨g9, hF⟩ := gd_s hF
      obtain ⟨v11, e10, hF⟩ := ob_s hF
      refine m_callV (As := []) (rest := []) X hp (w_X1_inside e10) q1214 q1147 q1148 q133 q1149 0 rfl ds_X1_inside ⟨Nat.le_of_ble_eq_true rfl, Nat.le_of_ble_eq_true rfl⟩ 2 (T := TX1) (N := 19) rfl (by decide) g9 hl.1 rfl (Nat.le_of_ble_eq_true rfl) dX0_look_76 ⟨Nat.le_refl 0, Nat.le_refl 0⟩ (fun H locs hp => ?_)
      cases hF
      exact m_iret X hp dX0_look_79
    · have hF := if_n c6 hF
      by_cases c12 : x1 = (2 : Int32)
      · have hF := if_p c12 hF
        refine lv_tableIn (x := x1) (tgt := 80) hx hb dX0_look_1 (by rw [c12]; decide) (by rw [c12]; decide) (by rw [c12]; rfl) (by decide) ?_
        refine lv_aload_n hx hb dX0_look_80 rfl (lv_at hl 0 rfl) ?_
        obtain ⟨v13, e14, hF⟩ := ob_s hF
        refine m_getR X hp e14 kX0 (Nat.le_of_ble_eq_true rfl) q463 dX0_look_81 ?_
        obtain ⟨v15, e16, hF⟩ := ob_s hF
        refine m_getIN X hp e16 kX1 (Nat.le_of_ble_eq_true rfl) q399 dX0_look_84 ?_
        cases hF
        exact m_iret X hp dX0_look_87
      · have hF := if_n c12 hF
        by_cases c17 : x1 = (3 : Int32)
        · have hF := if_p c17 hF
          refine lv_tableIn (x := x1) (tgt := 88) hx hb dX0_look_1 (by rw [c17]; decide) (by rw [c17]; decide) (by rw [c17]; rfl) (by decide) ?_
          refine lv_aload_n hx hb dX0_look_88 rfl (lv_at hl 0 rfl) ?_
          obtain ⟨v18, e19, hF⟩ := ob_s hF
          refine m_getR X hp e19 kX0 (Nat.le_of_ble_eq_true rfl) q463 dX0_look_89 ?_
          obtain ⟨v20, e21, hF⟩ := ob_s hF
          refine m_getIN X hp e21 kX1 (Nat.le_of_ble_eq_true rfl) q401 dX0_look_92 ?_
          cases hF
          exact m_iret X hp dX0_look_95
        · have hF := if_n c17 hF
          by_cases c22 : x1 = (4 : Int32)
          · have hF := if_p c22 hF
            refine lv_tableIn (x := x1) (tgt := 96) hx hb dX0_look_1 (by rw [c22]; decide) (by rw [c22]; decide) (by rw [c22]; rfl) (by decide) ?_
            refine lv_iconst (v := 0) hx hb dX0_look_96 (by decide) ?_
            refine lv_topi (fun v23 ev24 => ?_)
            have hF := nm_s hF ev24
            refine lv_istore_n (lv' := [(2, .int v23), (0, .ref x0), (1, .int x1)]) hx hb dX0_look_97 rfl hl (by decide) rfl (fun ls hl => ?_)
            refine lv_aload_n hx hb dX0_look_98 rfl (lv_at hl 1 rfl) ?_
            obtain ⟨v25, e26, hF⟩ := ob_s hF
            refine m_getR X hp e26 kX0 (Nat.le_of_ble_eq_true rfl) q463 dX0_look_99 ?_
            obtain ⟨v27, e28, hF⟩ := ob_s hF
            refine m_getRN X hp e28 kX1 (Nat.le_of_ble_eq_true rfl) q376 dX0_look_102 ?_
            refine lv_astore_n (lv' := [(3, .ref v27), (2, .int v23), (0, .ref x0), (1, .int x1)]) hx hb dX0_look_105 rfl hl (by decide) rfl (fun ls hl => ?_)
            refine lv_aload_n hx hb dX0_look_106 rfl (lv_at hl 0 rfl) ?_
            obtain ⟨v29, e30, hF⟩ := ob_s hF
            refine m_aln 100 X hp e30 rfl (by decide) dX0_look_107 ?_
            refine lv_istore (lv' := [(4, .int v29), (3, .ref v27), (2, .int v23), (0, .ref x0), (1, .int x1)]) hx hb dX0_look_108 hl (by decide) rfl (fun ls hl => ?_)
            refine lv_iconst (v := 0) hx hb dX0_look_110 (by decide) ?_
            refine lv_topi (fun v31 ev32 => ?_)
            have hF := nm_s hF ev32
            refine lv_istore (lv' := [(5, .int v31), (4, .int v29), (3, .ref v27), (2, .int v23), (0, .ref x0), (1, .int x1)]) hx hb dX0_look_111 hl (by decide) rfl (fun ls hl => ?_)
            exact b_X0_look_113 X _ _ _ _ _ _ _ _ hp (lv_sub hl [3, 2, 1, 0] rfl) hF
          · have hF := if_n c22 hF
            by_cases c33 : x1 = (5 : Int32)
            · have hF := if_p c33 hF
              refine lv_tableIn (x := x1) (tgt := 148) hx hb dX0_look_1 (by rw [c33]; decide) (by rw [c33]; decide) (by rw [c33]; rfl) (by decide) ?_
              refine lv_aload_n hx hb dX0_look_148 rfl (lv_at hl 0 rfl) ?_
              obtain ⟨v34, e35, hF⟩ := ob_s hF
              refine m_getR X hp e35 kX0 (Nat.le_of_ble_eq_true rfl) q463 dX0_look_149 ?_
              obtain ⟨v36, e37, hF⟩ := ob_s hF
              refine m_getIN X hp e37 kX1 (Nat.le_of_ble_eq_true rfl) q405 dX0_look_152 ?_
              cases hF
              exact m_iret X hp dX0_look_155
            · have hF := if_n c33 hF
              by_cases c38 : x1 = (6 : Int32)
              · have hF := if_p c38 hF
                refine lv_tableIn (x := x1) (tgt := 156) hx hb dX0_look_1 (by rw [c38]; decide) (by rw [c38]; decide) (by rw [c38]; rfl) (by decide) ?_
                refine lv_aload_n hx hb dX0_look_156 rfl (lv_at hl 0 rfl) ?_
                obtain ⟨v39, e40, hF⟩ := ob_s hF
                refine m_getR X hp e40 kX0 (Nat.le_of_ble_eq_true rfl) q463 dX0_look_157 ?_
                obtain ⟨v41, e42, hF⟩ := ob_s hF
                refine m_getIN X hp e42 kX1 (Nat.le_of_ble_eq_true rfl) q403 dX0_look_160 ?_
                cases hF
                exact m_iret X hp dX0_look_163
              · have hF := if_n c38 hF
                by_cases c43 : x1 = (7 : Int32)
                · have hF := if_p c43 hF
                  refine lv_tableIn (x := x1) (tgt := 164) hx hb dX0_look_1 (by rw [c43]; decide) (by rw [c43]; decide) (by rw [c43]; rfl) (by decide) ?_
                  refine lv_aload_n hx hb dX0_look_164 rfl (lv_at hl 0 rfl) ?_
                  obtain ⟨v44, e45, hF⟩ := ob_s hF
                  refine m_getR X hp e45 kX0 (Nat.le_of_ble_eq_true rfl) q463 dX0_look_165 ?_
                  obtain ⟨v46, e47, hF⟩ := ob_s hF
                  refine m_getRN X hp e47 kX1 (Nat.le_of_ble_eq_true rfl) q390 dX0_look_168 ?_
                  obtain ⟨g48, hF⟩ := gd_s hF
                  obtain ⟨v50, e49, hF⟩ := ob_s hF
                  refine m_callV (As := []) (rest := []) X hp (w_J2_size e49) q916 q808 q809 q138 q810 0 rfl ds_J2_size ⟨Nat.le_of_ble_eq_true rfl, Nat.le_of_ble_eq_true rfl⟩ 15 (T := TJ2) (N := 3) rfl (by decide) g48 hl.1 rfl (Nat.le_of_ble_eq_true rfl) dX0_look_171 ⟨Nat.le_refl 0, Nat.le_refl 0⟩ (fun H locs hp => ?_)
                  cases hF
                  exact m_iret X hp dX0_look_174
                · have hF := if_n c43 hF
                  by_cases c51 : x1 = (8 : Int32)
                  · have hF := if_p c51 hF
                    refine lv_tableIn (x := x1) (tgt := 175) hx hb dX0_look_1 (by rw [c51]; decide) (by rw [c51]; decide) (by rw [c51]; rfl) (by decide) ?_
                    refine lv_aload_n hx hb dX0_look_175 rfl (lv_at hl 0 rfl) ?_
                    obtain ⟨v52, e53, hF⟩ := ob_s hF
                    refine m_getR X hp e53 kX0 (Nat.le_of_ble_eq_true rfl) q463 dX0_look_176 ?_
                    obtain ⟨v54, e55, hF⟩ := ob_s hF
                    refine m_getIN X hp e55 kX1 (Nat.le_of_ble_eq_true rfl) q407 dX0_look_179 ?_
                    cases hF
                    exact m_iret X hp dX0_look_182
                  · have hF := if_n c51 hF
                    by_cases c56 : x1 = (9 : Int32)
                    · have hF := if_p c56 hF
                      refine lv_tableIn (x := x1) (tgt := 183) hx hb dX0_look_1 (by rw [c56]; decide) (by rw [c56]; decide) (by rw [c56]; rfl) (by decide) ?_
                      refine lv_aload_n hx hb dX0_look_183 rfl (lv_at hl 0 rfl) ?_
                      obtain ⟨v57, e58, hF⟩ := ob_s hF
                      refine m_getR X hp e58 kX0 (Nat.le_of_ble_eq_true rfl) q463 dX0_look_184 ?_
                      obtain ⟨v59, e60, hF⟩ := ob_s hF
                      refine m_getIN X hp e60 kX1 (Nat.le_of_ble_eq_true rfl) q409 dX0_look_187 ?_
                      cases hF
                      exact m_iret X hp dX0_look_190
                    · have hF := if_n c56 hF
                      by_cases c61 : x1 = (10 : Int32)
                      · have hF := if_p c61 hF
                        refine lv_tableIn (x := x1) (tgt := 191) hx hb dX0_look_1 (by rw [c61]; decide) (by rw [c61]; decide) (by rw [c61]; rfl) (by decide) ?_
                        refine lv_aload_n hx hb dX0_look_191 rfl (lv_at hl 0 rfl) ?_
                        obtain ⟨v62, e63, hF⟩ := ob_s hF
                        refine m_getR X hp e63 kX0 (Nat.le_of_ble_eq_true rfl) q463 dX0_look_192 ?_
                        obtain ⟨v64, e65, hF⟩ := ob_s hF
                        refine m_getRN X hp e65 kX1 (Nat.le_of_ble_eq_true rfl) q394 dX0_look_195 ?_
                        obtain ⟨g66, hF⟩ := gd_s hF
                        obtain ⟨v68, e67, hF⟩ := ob_s hF
                        refine m_callV (As := []) (rest := []) X hp (w_J2_size e67) q916 q808 q809 q138 q810 0 rfl ds_J2_size ⟨Nat.le_of_ble_eq_true rfl, Nat.le_of_ble_eq_true rfl⟩ 15 (T := TJ2) (N := 3) rfl (by decide) g66 hl.1 rfl (Nat.le_of_ble_eq_true rfl) dX0_look_198 ⟨Nat.le_refl 0, Nat.le_refl 0⟩ (fun H locs hp => ?_)
                        cases hF
                        exact m_iret X hp dX0_look_201
                      · have hF := if_n c61 hF
                        by_cases c69 : x1 = (11 : Int32)
                        · have hF := if_p c69 hF
                          refine lv_tableIn (x := x1) (tgt := 202) hx hb dX0_look_1 (by rw [c69]; decide) (by rw [c69]; decide) (by rw [c69]; rfl) (by decide) ?_
                          refine lv_aload_n hx hb dX0_look_202 rfl (lv_at hl 0 rfl) ?_
                          obtain ⟨v70, e71, hF⟩ := ob_s hF
                          refine m_getI X hp e71 kX0 (Nat.le_of_ble_eq_true rfl) q468 dX0_look_203 ?_
                          cases hF
                          exact m_iret X hp dX0_look_206
                        · have hF := if_n c69 hF
                          refine lv_tableOut (x := x1) (tgt := 207) hx hb dX0_look_1 (tb_out 11 (by decide) (by decide) (fun j hj => by
                            match j, hj with
                            | 0, _ => exact c1
                            | 1, _ => exact c6
                            | 2, _ => exact c12
                            | 3, _ => exact c17
                            | 4, _ => exact c22
                            | 5, _ => exact c33
                            | 6, _ => exact c38
                            | 7, _ => exact c43
                            | 8, _ => exact c51
                            | 9, _ => exact c56
                            | 10, _ => exact c61
                            | 11, _ => exact c69
                            | j + 12, hj => exact absurd hj (by omega))) (by decide) ?_
                          refine lv_iconst (v := -1) hx hb dX0_look_207 (by decide) ?_
                          cases hF
                          exact m_iret X hp dX0_look_208
end
section
variable {l : Launch} {D : va_G} {n0 : Nat} {P : mP} {S : mSh} {M : mMm} {n : Nat} {p : Program} {e : Env} {s : State} {m : MethodId} {args : Array Value} {below : List Frame} {meth : Method} {c : Code}
abbrev Rm_X0_walksAlone : Room := { frames := 3, cells := 0, slots := 0, locals := 66 }
def fb_X0_walksAlone_121 (S : mSh) (M : mMm) (x1 : Nat) (x5 : Int32) : Option mMm := ob (wF S M x1 5 1 (.int x5)) fun M55 => some M55
theorem b_X0_walksAlone_121 {M' : mMm} (X : mCx D n0 P p m c cX0_walksAlone 6 s args yX0_walksAlone.cls meth none) : ∀ (M : mMm) (x1 : Nat) (x5 : Int32) (H : Heap) (locs : List Loc) (ls : Array Slot), mHp D n0 S M n s H locs → lv_has ls 6 [(1, .ref x1), (5, .int x5)] → fb_X0_walksAlone_121 S M x1 x5 = some M' → W p l e Rm_X0_walksAlone s m args below meth c H locs 0 0 (MQ below (mQ D n0 none S M' n) args s 0 0 (mA n0)) (F0 m 121 ls []) := by
  have hx := X.1.1
  have hb := X.1.2.1
  have hown := X.1.2.2.2.1
  have hts := X.1.2.2.2.2
  intro M x1 x5 H locs ls hp hl hF
  unfold fb_X0_walksAlone_121 at hF
  refine lv_aload_n hx hb dX0_walksAlone_121 rfl (lv_at hl 0 rfl) ?_
  refine lv_iload hx hb dX0_walksAlone_122 (lv_at hl 1 rfl) ?_
  obtain ⟨M55, e56, hF⟩ := ob_s hF
  refine m_putWN X hp e56 kX4 (Nat.le_of_ble_eq_true rfl) q256 rfl rfl rfl dX0_walksAlone_124 (fun H locs hp => ?_)
  cases hF
  exact m_vret X hp dX0_walksAlone_127
def fb_X0_walksAlone_84 (S : mSh) (M : mMm) (x0 : Nat) (x1 : Nat) (x4 : Nat) : Option mMm := ob (rI S M x4 3 0) fun v41 => (if v41 = 0 then some M else ob (rI S M x1 5 1) fun v44 => ob (rI S M x1 5 2) fun v46 => ob (f_X0_on v44 v46) fun v49 => (if v49 = (-1 : Int32) then (fb_X0_walksAlone_121 S M x1 v49) else gd ((S x0).1 = 1) (ob (f_X0_isOpen S M x0 v49) fun v53 => (if v53 = 0 then some M else (fb_X0_walksAlone_121 S M x1 v49)))))
theorem b_X0_walksAlone_84 {M' : mMm} (X : mCx D n0 P p m c cX0_walksAlone 6 s args yX0_walksAlone.cls meth none) : ∀ (M : mMm) (x0 : Nat) (x1 : Nat) (x4 : Nat) (H : Heap) (locs : List Loc) (ls : Array Slot), mHp D n0 S M n s H locs → lv_has ls 6 [(0, .ref x0), (1, .ref x1), (4, .ref x4)] → fb_X0_walksAlone_84 S M x0 x1 x4 = some M' → W p l e Rm_X0_walksAlone s m args below meth c H locs 0 0 (MQ below (mQ D n0 none S M' n) args s 0 0 (mA n0)) (F0 m 84 ls []) := by
  have hx := X.1.1
  have hb := X.1.2.1
  have hown := X.1.2.2.2.1
  have hts := X.1.2.2.2.2
  intro M x0 x1 x4 H locs ls hp hl hF
  unfold fb_X0_walksAlone_84 at hF
  refine lv_aload hx hb dX0_walksAlone_84 (lv_at hl 2 rfl) ?_
  obtain ⟨v41, e42, hF⟩ := ob_s hF
  refine m_getIN X hp e42 kX2 (Nat.le_of_ble_eq_true rfl) q186 dX0_walksAlone_86 ?_
  refine lv_if_ne (tgt := 93) hx hb dX0_walksAlone_89 (by decide) (fun c43 => ?_) (fun c43 => ?_)
  · have hF := if_n c43 hF
    refine lv_aload_n hx hb dX0_walksAlone_93 rfl (lv_at hl 1 rfl) ?_
    obtain ⟨v44, e45, hF⟩ := ob_s hF
    refine m_getIN X hp e45 kX4 (Nat.le_of_ble_eq_true rfl) q256 dX0_walksAlone_94 ?_
    refine lv_aload_n hx hb dX0_walksAlone_97 rfl (lv_at hl 1 rfl) ?_
    obtain ⟨v46, e47, hF⟩ := ob_s hF
    refine m_getIN X hp e47 kX4 (Nat.le_of_ble_eq_true rfl) q259 dX0_walksAlone_98 ?_
    obtain ⟨v49, e48, hF⟩ := ob_s hF
    refine m_callS (As := [.int v44, .int v46]) (rest := []) X hp (w_X0_on e48) q1241 q1103 q132 q1104 2 rfl ds_X0_on ⟨Nat.le_of_ble_eq_true rfl, Nat.le_of_ble_eq_true rfl⟩ hl.1 rfl (Nat.le_of_ble_eq_true rfl) dX0_walksAlone_101 ⟨Nat.le_refl 0, Nat.le_refl 0⟩ (fun H locs hp => ?_)
    refine lv_istore (lv' := [(5, .int v49), (0, .ref x0), (1, .ref x1), (4, .ref x4)]) hx hb dX0_walksAlone_104 hl (by decide) rfl (fun ls hl => ?_)
    refine lv_iload hx hb dX0_walksAlone_106 (lv_at hl 0 rfl) ?_
    refine lv_iconst (v := -1) hx hb dX0_walksAlone_108 (by decide) ?_
    refine lv_icmp_eq (tgt := 121) hx hb dX0_walksAlone_109 (by decide) (fun c50 => ?_) (fun c50 => ?_)
    · have hF := if_p c50 hF
      exact b_X0_walksAlone_121 X _ _ _ _ _ _ hp (lv_sub hl [2, 0] rfl) hF
    · have hF := if_n c50 hF
      refine lv_aload_n hx hb dX0_walksAlone_112 rfl (lv_at hl 1 rfl) ?_
      refine lv_iload hx hb dX0_walksAlone_113 (lv_at hl 0 rfl) ?_
      obtain ⟨g51, hF⟩ := gd_s hF
      obtain ⟨v53, e52, hF⟩ := ob_s hF
      refine m_callV (As := [.int v49]) (rest := []) X hp (w_X0_isOpen e52) q1228 q1230 qs41 q132 q1231 1 rfl ds_X0_isOpen ⟨Nat.le_of_ble_eq_true rfl, Nat.le_of_ble_eq_true rfl⟩ 1 (T := TX0) (N := 30) rfl (by decide) g51 hl.1 rfl (Nat.le_of_ble_eq_true rfl) dX0_walksAlone_115 ⟨Nat.le_refl 0, Nat.le_refl 0⟩ (fun H locs hp => ?_)
      refine lv_if_eq (tgt := 127) hx hb dX0_walksAlone_118 (by decide) (fun c54 => ?_) (fun c54 => ?_)
      · have hF := if_p c54 hF
        cases hF
        exact m_vret X hp dX0_walksAlone_127
      · have hF := if_n c54 hF
        exact b_X0_walksAlone_121 X _ _ _ _ _ _ hp (lv_sub hl [2, 0] rfl) hF
  · have hF := if_p c43 hF
    cases hF
    exact m_vret X hp dX0_walksAlone_92
def fb_X0_walksAlone_55 (S : mSh) (M : mMm) (x0 : Nat) (x1 : Nat) (y0 : Nat) : Option mMm := ob (rI S M y0 3 1) fun v27 => gd ((S x1).1 = 5) (ob (f_X4_does S M x1 v27) fun M32 => ob (rI S M32 y0 3 2) fun v33 => (if v33 ≤ 0 then (fb_X0_walksAlone_84 S M32 x0 x1 y0) else ob (rI S M32 y0 3 2) fun v36 => ob (f_X4_turns S M32 x1 v36 (0 : Int32)) fun M40 => (fb_X0_walksAlone_84 S M40 x0 x1 y0)))
theorem b_X0_walksAlone_55 {M' : mMm} (X : mCx D n0 P p m c cX0_walksAlone 6 s args yX0_walksAlone.cls meth none) : ∀ (M : mMm) (x0 : Nat) (x1 : Nat) (y0 : Nat) (H : Heap) (locs : List Loc) (ls : Array Slot), mHp D n0 S M n s H locs → lv_has ls 6 [(0, .ref x0), (1, .ref x1)] → fb_X0_walksAlone_55 S M x0 x1 y0 = some M' → W p l e Rm_X0_walksAlone s m args below meth c H locs 0 0 (MQ below (mQ D n0 none S M' n) args s 0 0 (mA n0)) (F0 m 55 ls [.ref y0]) := by
  have hx := X.1.1
  have hb := X.1.2.1
  have hown := X.1.2.2.2.1
  have hts := X.1.2.2.2.2
  intro M x0 x1 y0 H locs ls hp hl hF
  unfold fb_X0_walksAlone_55 at hF
  refine lv_astore (lv' := [(4, .ref y0), (0, .ref x0), (1, .ref x1)]) hx hb dX0_walksAlone_55 hl (by decide) rfl (fun ls hl => ?_)
  refine lv_aload_n hx hb dX0_walksAlone_57 rfl (lv_at hl 2 rfl) ?_
  refine lv_aload hx hb dX0_walksAlone_58 (lv_at hl 0 rfl) ?_
  obtain ⟨v27, e28, hF⟩ := ob_s hF
  refine m_getIN X hp e28 kX2 (Nat.le_of_ble_eq_true rfl) q189 dX0_walksAlone_60 ?_
  obtain ⟨g29, hF⟩ := gd_s hF
  obtain ⟨M32, e30, hF⟩ := ob_s hF
  refine m_callV (As := [.int v27]) (rest := []) X hp (w_X4_does e30) q1407 q1094 q1095 q139 q1096 1 rfl ds_X4_does ⟨Nat.le_of_ble_eq_true rfl, Nat.le_of_ble_eq_true rfl⟩ 5 (T := TX4) (N := 11) rfl (by decide) g29 hl.1 rfl (Nat.le_of_ble_eq_true rfl) dX0_walksAlone_63 ⟨Nat.le_refl 0, Nat.le_refl 0⟩ (fun H locs hp => ?_)
  refine lv_aload hx hb dX0_walksAlone_66 (lv_at hl 0 rfl) ?_
  obtain ⟨v33, e34, hF⟩ := ob_s hF
  refine m_getIN X hp e34 kX2 (Nat.le_of_ble_eq_true rfl) q192 dX0_walksAlone_68 ?_
  refine lv_if_le (tgt := 84) hx hb dX0_walksAlone_71 (by decide) (fun c35 => ?_) (fun c35 => ?_)
  · have hF := if_p c35 hF
    exact b_X0_walksAlone_84 X _ _ _ _ _ _ _ hp (lv_sub hl [1, 2, 0] rfl) hF
  · have hF := if_n c35 hF
    refine lv_aload_n hx hb dX0_walksAlone_74 rfl (lv_at hl 2 rfl) ?_
    refine lv_aload hx hb dX0_walksAlone_75 (lv_at hl 0 rfl) ?_
    obtain ⟨v36, e37, hF⟩ := ob_s hF
    refine m_getIN X hp e37 kX2 (Nat.le_of_ble_eq_true rfl) q192 dX0_walksAlone_77 ?_
    refine lv_iconst (v := 0) hx hb dX0_walksAlone_80 (by decide) ?_
    obtain ⟨M40, e38, hF⟩ := ob_s hF
    refine m_callV (As := [.int v36, .int (0 : Int32)]) (rest := []) X hp (w_X4_turns e38) q1408 q1061 q1062 q139 q1063 2 rfl ds_X4_turns ⟨Nat.le_of_ble_eq_true rfl, Nat.le_of_ble_eq_true rfl⟩ 5 (T := TX4) (N := 11) rfl (by decide) g29 hl.1 rfl (Nat.le_of_ble_eq_true rfl) dX0_walksAlone_81 ⟨Nat.le_refl 0, Nat.le_refl 0⟩ (fun H locs hp => ?_)
    exact b_X0_walksAlone_84 X _ _ _ _ _ _ _ hp (lv_sub hl [1, 2, 0] rfl) hF
def f_X0_walksAlone (S : mSh) (M : mMm) (x0 : Nat) (x1 : Nat) (x2 : Int32) : Option mMm := gd ((S x1).1 = 5) (ob (f_X4_isIn S M x1) fun v3 => (if v3 = 0 then some M else ob (rR S M x0 1 4) fun v5 => ob (rR S M v5 2 8) fun v7 => gd ((S v7).1 = 15) (ob (f_J2_get S M v7 x2) fun v11 => gd ((S v11).1 = 15) (ob (rI S M x1 5 6) fun v13 => ob (f_J2_size S M v11) fun v16 => (if v16 ≤ v13 then ob (rR S M x0 1 4) fun v18 => ob (rR S M v18 2 2) fun v20 => (fb_X0_walksAlone_55 S M x0 x1 v20) else ob (rI S M x1 5 6) fun v22 => ob (f_J2_get S M v11 v22) fun v25 => gd ((S v25).1 = 3) ((fb_X0_walksAlone_55 S M x0 x1 v25)))))))
theorem w_X0_walksAlone {x0 : Nat} {x1 : Nat} {x2 : Int32} {M' : mMm} (hF : f_X0_walksAlone S M x0 x1 x2 = some M') : mCt l D n0 P yX0_walksAlone cX0_walksAlone 6 none 3 66 0 0 [.ref x0, .ref x1, .int x2] S M n none S M' n := by
  refine m_ofW (by decide) (Nat.le_of_ble_eq_true rfl) (fun p e s m below meth c X hnm hp ls hl => ?_)
  have hx := X.1.1
  have hb := X.1.2.1
  have hown := X.1.2.2.2.1
  have hts := X.1.2.2.2.2
  have hl : lv_has ls 6 [(0, .ref x0), (1, .ref x1), (2, .int x2)] := hl
  unfold f_X0_walksAlone at hF
  refine lv_aload_n hx hb dX0_walksAlone_0 rfl (lv_at hl 1 rfl) ?_
  obtain ⟨g1, hF⟩ := gd_s hF
  obtain ⟨v3, e2, hF⟩ := ob_s hF
  refine m_callV (As := []) (rest := []) X hp (w_X4_isIn e2) q1023 q932 q933 q139 q934 0 rfl ds_X4_isIn ⟨Nat.le_of_ble_eq_true rfl, Nat.le_of_ble_eq_true rfl⟩ 5 (T := TX4) (N := 11) rfl (by decide) g1 hl.1 rfl (Nat.le_of_ble_eq_true rfl) dX0_walksAlone_1 ⟨Nat.le_refl 0, Nat.le_refl 0⟩ (fun H locs hp => ?_)
  refine lv_if_ne (tgt := 8) hx hb dX0_walksAlone_4 (by decide) (fun c4 => ?_) (fun c4 => ?_)
  · have hF := if_n c4 hF
    refine lv_aload_n hx hb dX0_walksAlone_8 rfl (lv_at hl 0 rfl) ?_
    obtain ⟨v5, e6, hF⟩ := ob_s hF
    refine m_getR X hp e6 kX0 (Nat.le_of_ble_eq_true rfl) q463 dX0_walksAlone_9 ?_
    obtain ⟨v7, e8, hF⟩ := ob_s hF
    refine m_getRN X hp e8 kX1 (Nat.le_of_ble_eq_true rfl) q392 dX0_walksAlone_12 ?_
    refine lv_iload_n hx hb dX0_walksAlone_15 rfl (lv_at hl 2 rfl) ?_
    obtain ⟨g9, hF⟩ := gd_s hF
    obtain ⟨v11, e10, hF⟩ := ob_s hF
    refine m_callV (As := [.int x2]) (rest := []) X hp (w_J2_get e10) q1404 q1089 q1090 q138 q1091 1 rfl ds_J2_get ⟨Nat.le_of_ble_eq_true rfl, Nat.le_of_ble_eq_true rfl⟩ 15 (T := TJ2) (N := 3) rfl (by decide) g9 hl.1 rfl (Nat.le_of_ble_eq_true rfl) dX0_walksAlone_16 ⟨Nat.le_refl 0, Nat.le_refl 0⟩ (fun H locs hp => ?_)
    obtain ⟨g12, hF⟩ := gd_s hF
    refine m_cast X hp kJ2 g12 q1405 dX0_walksAlone_19 ?_
    refine lv_astore_n (lv' := [(3, .ref v11), (0, .ref x0), (1, .ref x1), (2, .int x2)]) hx hb dX0_walksAlone_22 rfl hl (by decide) rfl (fun ls hl => ?_)
    refine lv_aload_n hx hb dX0_walksAlone_23 rfl (lv_at hl 2 rfl) ?_
    obtain ⟨v13, e14, hF⟩ := ob_s hF
    refine m_getIN X hp e14 kX4 (Nat.le_of_ble_eq_true rfl) q271 dX0_walksAlone_24 ?_
    refine lv_aload_n hx hb dX0_walksAlone_27 rfl (lv_at hl 0 rfl) ?_
    obtain ⟨v16, e15, hF⟩ := ob_s hF
    refine m_callV (As := []) (rest := [.int v13]) X hp (w_J2_size e15) q916 q808 q809 q138 q810 0 rfl ds_J2_size ⟨Nat.le_of_ble_eq_true rfl, Nat.le_of_ble_eq_true rfl⟩ 15 (T := TJ2) (N := 3) rfl (by decide) g12 hl.1 rfl (Nat.le_of_ble_eq_true rfl) dX0_walksAlone_28 ⟨Nat.le_refl 0, Nat.le_refl 0⟩ (fun H locs hp => ?_)
    refine lv_icmp_ge (tgt := 48) hx hb dX0_walksAlone_31 (by decide) (fun c17 => ?_) (fun c17 => ?_)
    · have hF := if_p c17 hF
      refine lv_aload_n hx hb dX0_walksAlone_48 rfl (lv_at hl 1 rfl) ?_
      obtain ⟨v18, e19, hF⟩ := ob_s hF
      refine m_getR X hp e19 kX0 (Nat.le_of_ble_eq_true rfl) q463 dX0_walksAlone_49 ?_
      obtain ⟨v20, e21, hF⟩ := ob_s hF
      refine m_getRN X hp e21 kX1 (Nat.le_of_ble_eq_true rfl) q380 dX0_walksAlone_52 ?_
      exact b_X0_walksAlone_55 X _ _ _ _ _ _ _ hp (lv_sub hl [1, 2] rfl) hF
    · have hF := if_n c17 hF
      refine lv_aload_n hx hb dX0_walksAlone_34 rfl (lv_at hl 0 rfl) ?_
      refine lv_aload_n hx hb dX0_walksAlone_35 rfl (lv_at hl 2 rfl) ?_
      obtain ⟨v22, e23, hF⟩ := ob_s hF
      refine m_getIN X hp e23 kX4 (Nat.le_of_ble_eq_true rfl) q271 dX0_walksAlone_36 ?_
      obtain ⟨v25, e24, hF⟩ := ob_s hF
      refine m_callV (As := [.int v22]) (rest := []) X hp (w_J2_get e24) q1404 q1089 q1090 q138 q1091 1 rfl ds_J2_get ⟨Nat.le_of_ble_eq_true rfl, Nat.le_of_ble_eq_true rfl⟩ 15 (T := TJ2) (N := 3) rfl (by decide) g12 hl.1 rfl (Nat.le_of_ble_eq_true rfl) dX0_walksAlone_39 ⟨Nat.le_refl 0, Nat.le_refl 0⟩ (fun H locs hp => ?_)
      obtain ⟨g26, hF⟩ := gd_s hF
      refine m_cast X hp kX2 g26 q1406 dX0_walksAlone_42 ?_
      refine lv_goto (tgt := 55) hx hb dX0_walksAlone_45 (by decide) ?_
      exact b_X0_walksAlone_55 X _ _ _ _ _ _ _ hp (lv_sub hl [1, 2] rfl) hF
  · have hF := if_p c4 hF
    cases hF
    exact m_vret X hp dX0_walksAlone_7
end
section
variable {l : Launch} {D : va_G} {n0 : Nat} {P : mP} {S : mSh} {M : mMm} {n : Nat} {p : Program} {e : Env} {s : State} {m : MethodId} {args : Array Value} {below : List Frame} {meth : Method} {c : Code}
abbrev Rm_X0_meets : Room := { frames := 4, cells := 0, slots := 0, locals := 91 }
def fb_X0_meets_92 (S : mSh) (k52 : mMm → Nat → Int32 → Int32 → Int32 → Option (Int32 × mMm)) (M : mMm) (x0 : Nat) (x1 : Int32) (x2 : Int32) (x3 : Int32) : Option (Int32 × mMm) := ob (rR S M x0 1 27) fun v51 => ob (f_X0_walksAlone S M x0 v51 x1) fun M55 => ob (rR S M55 x0 1 28) fun v56 => ob (f_X0_walksAlone S M55 x0 v56 x2) fun M60 => nm (x3 + (1 : Int32)) fun v61 => (k52 M60 x0 x1 x2 v61)
theorem b_X0_meets_92 {r : Int32} {M' : mMm} (X : mCx D n0 P p m c cX0_meets 4 s args yX0_meets.cls meth (some .int)) (k52 : mMm → Nat → Int32 → Int32 → Int32 → Option (Int32 × mMm)) (hk52 : ∀ (M : mMm) (x0 : Nat) (x1 : Int32) (x2 : Int32) (x3 : Int32) (H : Heap) (locs : List Loc) (ls : Array Slot), mHp D n0 S M n s H locs → lv_has ls 4 [(0, .ref x0), (1, .int x1), (2, .int x2), (3, .int x3)] → k52 M x0 x1 x2 x3 = some (r, M') → W p l e Rm_X0_meets s m args below meth c H locs 0 0 (MQ below (mQ D n0 (some (.int r)) S M' n) args s 0 0 (mA n0)) (F0 m 52 ls [])) : ∀ (M : mMm) (x0 : Nat) (x1 : Int32) (x2 : Int32) (x3 : Int32) (H : Heap) (locs : List Loc) (ls : Array Slot), mHp D n0 S M n s H locs → lv_has ls 4 [(0, .ref x0), (1, .int x1), (2, .int x2), (3, .int x3)] → fb_X0_meets_92 S k52 M x0 x1 x2 x3 = some (r, M') → W p l e Rm_X0_meets s m args below meth c H locs 0 0 (MQ below (mQ D n0 (some (.int r)) S M' n) args s 0 0 (mA n0)) (F0 m 92 ls []) := by
  have hx := X.1.1
  have hb := X.1.2.1
  have hown := X.1.2.2.2.1
  have hts := X.1.2.2.2.2
  intro M x0 x1 x2 x3 H locs ls hp hl hF
  unfold fb_X0_meets_92 at hF
  refine lv_aload_n hx hb dX0_meets_92 rfl (lv_at hl 0 rfl) ?_
  refine lv_aload_n hx hb dX0_meets_93 rfl (lv_at hl 0 rfl) ?_
  obtain ⟨v51, e52, hF⟩ := ob_s hF
  refine m_getR X hp e52 kX0 (Nat.le_of_ble_eq_true rfl) q487 dX0_meets_94 ?_
  refine lv_iload_n hx hb dX0_meets_97 rfl (lv_at hl 1 rfl) ?_
  obtain ⟨M55, e53, hF⟩ := ob_s hF
  refine m_callV (As := [.ref v51, .int x1]) (rest := []) X hp (w_X0_walksAlone e53) q1400 q1402 qs60 q132 q1403 2 rfl ds_X0_walksAlone ⟨Nat.le_of_ble_eq_true rfl, Nat.le_of_ble_eq_true rfl⟩ 1 (T := TX0) (N := 30) rfl (by decide) (rR_s e52).1 hl.1 rfl (Nat.le_of_ble_eq_true rfl) dX0_meets_98 ⟨Nat.le_refl 0, Nat.le_refl 0⟩ (fun H locs hp => ?_)
  refine lv_aload_n hx hb dX0_meets_101 rfl (lv_at hl 0 rfl) ?_
  refine lv_aload_n hx hb dX0_meets_102 rfl (lv_at hl 0 rfl) ?_
  obtain ⟨v56, e57, hF⟩ := ob_s hF
  refine m_getR X hp e57 kX0 (Nat.le_of_ble_eq_true rfl) q488 dX0_meets_103 ?_
  refine lv_iload_n hx hb dX0_meets_106 rfl (lv_at hl 2 rfl) ?_
  obtain ⟨M60, e58, hF⟩ := ob_s hF
  refine m_callV (As := [.ref v56, .int x2]) (rest := []) X hp (w_X0_walksAlone e58) q1400 q1402 qs60 q132 q1403 2 rfl ds_X0_walksAlone ⟨Nat.le_of_ble_eq_true rfl, Nat.le_of_ble_eq_true rfl⟩ 1 (T := TX0) (N := 30) rfl (by decide) (rR_s e57).1 hl.1 rfl (Nat.le_of_ble_eq_true rfl) dX0_meets_107 ⟨Nat.le_refl 0, Nat.le_refl 0⟩ (fun H locs hp => ?_)
  obtain ⟨v61, ev62⟩ : ∃ y : Int32, y = x3 + (1 : Int32) := ⟨_, rfl⟩
  have hF := nm_s hF ev62
  refine lv_iinc (v := v61) (lv' := [(3, .int v61), (0, .ref x0), (1, .int x1), (2, .int x2)]) hx hb dX0_meets_110 hl (k := 3) rfl (by rw [ev62]; rfl) (by decide) rfl (fun ls hl => ?_)
  refine lv_goto (tgt := 52) hx hb dX0_meets_113 (by decide) ?_
  exact hk52 _ _ _ _ _ _ _ _ hp (lv_sub hl [1, 2, 3, 0] rfl) hF
def fb_X0_meets_52 (S : mSh) : Nat → mMm → Nat → Int32 → Int32 → Int32 → Option (Int32 × mMm)
  | 0, _, _, _, _, _ => none
  | t + 1, M, x0, x1, x2, x3 => (if (60 : Int32) < x3 then some ((-1 : Int32), M) else ob (rR S M x0 1 27) fun v35 => gd ((S v35).1 = 5) (ob (f_X4_isIn S M v35) fun v39 => (if v39 = 0 then (fb_X0_meets_92 S (fb_X0_meets_52 S t) M x0 x1 x2 x3) else (if x1 = x2 then some (x3, M) else ob (rR S M x0 1 27) fun v42 => ob (rI S M v42 5 1) fun v44 => ob (rR S M x0 1 28) fun v46 => ob (rI S M v46 5 1) fun v48 => (if v44 = v48 then some (x3, M) else (fb_X0_meets_92 S (fb_X0_meets_52 S t) M x0 x1 x2 x3))))))
theorem b_X0_meets_52 {r : Int32} {M' : mMm} (X : mCx D n0 P p m c cX0_meets 4 s args yX0_meets.cls meth (some .int)) : ∀ t : Nat, ∀ (M : mMm) (x0 : Nat) (x1 : Int32) (x2 : Int32) (x3 : Int32) (H : Heap) (locs : List Loc) (ls : Array Slot), mHp D n0 S M n s H locs → lv_has ls 4 [(0, .ref x0), (1, .int x1), (2, .int x2), (3, .int x3)] → fb_X0_meets_52 S t M x0 x1 x2 x3 = some (r, M') → W p l e Rm_X0_meets s m args below meth c H locs 0 0 (MQ below (mQ D n0 (some (.int r)) S M' n) args s 0 0 (mA n0)) (F0 m 52 ls []) := by
  have hx := X.1.1
  have hb := X.1.2.1
  have hown := X.1.2.2.2.1
  have hts := X.1.2.2.2.2
  intro t
  induction t with
  | zero =>
    intro M x0 x1 x2 x3 H locs ls hp hl hF
    have hF : none = some (r, M') := hF
    cases hF
  | succ t ih =>
    intro M x0 x1 x2 x3 H locs ls hp hl hF
    rw [fb_X0_meets_52] at hF
    refine lv_iload_n hx hb dX0_meets_52 rfl (lv_at hl 3 rfl) ?_
    refine lv_bipush (v := 60) hx hb dX0_meets_53 (by decide) ?_
    refine lv_icmp_gt (tgt := 116) hx hb dX0_meets_55 (by decide) (fun c34 => ?_) (fun c34 => ?_)
    · have hF := if_p c34 hF
      refine lv_iconst (v := -1) hx hb dX0_meets_116 (by decide) ?_
      cases hF
      exact m_iret X hp dX0_meets_117
    · have hF := if_n c34 hF
      refine lv_aload_n hx hb dX0_meets_58 rfl (lv_at hl 0 rfl) ?_
      obtain ⟨v35, e36, hF⟩ := ob_s hF
      refine m_getR X hp e36 kX0 (Nat.le_of_ble_eq_true rfl) q487 dX0_meets_59 ?_
      obtain ⟨g37, hF⟩ := gd_s hF
      obtain ⟨v39, e38, hF⟩ := ob_s hF
      refine m_callV (As := []) (rest := []) X hp (w_X4_isIn e38) q1023 q932 q933 q139 q934 0 rfl ds_X4_isIn ⟨Nat.le_of_ble_eq_true rfl, Nat.le_of_ble_eq_true rfl⟩ 5 (T := TX4) (N := 11) rfl (by decide) g37 hl.1 rfl (Nat.le_of_ble_eq_true rfl) dX0_meets_62 ⟨Nat.le_refl 0, Nat.le_refl 0⟩ (fun H locs hp => ?_)
      refine lv_if_eq (tgt := 92) hx hb dX0_meets_65 (by decide) (fun c40 => ?_) (fun c40 => ?_)
      · have hF := if_p c40 hF
        exact b_X0_meets_92 X _ ih _ _ _ _ _ _ _ _ hp (lv_sub hl [0, 1, 2, 3] rfl) hF
      · have hF := if_n c40 hF
        refine lv_iload_n hx hb dX0_meets_68 rfl (lv_at hl 1 rfl) ?_
        refine lv_iload_n hx hb dX0_meets_69 rfl (lv_at hl 2 rfl) ?_
        refine lv_icmp_eq (tgt := 90) hx hb dX0_meets_70 (by decide) (fun c41 => ?_) (fun c41 => ?_)
        · have hF := if_p c41 hF
          refine lv_iload_n hx hb dX0_meets_90 rfl (lv_at hl 3 rfl) ?_
          cases hF
          exact m_iret X hp dX0_meets_91
        · have hF := if_n c41 hF
          refine lv_aload_n hx hb dX0_meets_73 rfl (lv_at hl 0 rfl) ?_
          obtain ⟨v42, e43, hF⟩ := ob_s hF
          refine m_getR X hp e43 kX0 (Nat.le_of_ble_eq_true rfl) q487 dX0_meets_74 ?_
          obtain ⟨v44, e45, hF⟩ := ob_s hF
          refine m_getIN X hp e45 kX4 (Nat.le_of_ble_eq_true rfl) q256 dX0_meets_77 ?_
          refine lv_aload_n hx hb dX0_meets_80 rfl (lv_at hl 0 rfl) ?_
          obtain ⟨v46, e47, hF⟩ := ob_s hF
          refine m_getR X hp e47 kX0 (Nat.le_of_ble_eq_true rfl) q488 dX0_meets_81 ?_
          obtain ⟨v48, e49, hF⟩ := ob_s hF
          refine m_getIN X hp e49 kX4 (Nat.le_of_ble_eq_true rfl) q256 dX0_meets_84 ?_
          refine lv_icmp_ne (tgt := 92) hx hb dX0_meets_87 (by decide) (fun c50 => ?_) (fun c50 => ?_)
          · have hF := if_n c50 hF
            exact b_X0_meets_92 X _ ih _ _ _ _ _ _ _ _ hp (lv_sub hl [0, 1, 2, 3] rfl) hF
          · have hF := if_p c50 hF
            refine lv_iload_n hx hb dX0_meets_90 rfl (lv_at hl 3 rfl) ?_
            cases hF
            exact m_iret X hp dX0_meets_91
def f_X0_meets (S : mSh) (M : mMm) (x0 : Nat) (x1 : Int32) (x2 : Int32) : Option (Int32 × mMm) := gd ((S x0).1 = 1) (ob (f_X0_isInside S M x0 x1) fun v3 => (if v3 = 0 then some ((-1 : Int32), M) else ob (f_X0_isInside S M x0 x2) fun v6 => (if v6 = 0 then some ((-1 : Int32), M) else ob (rR S M x0 1 27) fun v8 => ob (rR S M x0 1 4) fun v10 => ob (rR S M v10 2 1) fun v12 => ob (aR S M v12 104 x1) fun v14 => gd ((S v8).1 = 5) (ob (f_X4_takes S M v8 v14) fun M19 => ob (rR S M19 x0 1 28) fun v20 => ob (rR S M19 x0 1 4) fun v22 => ob (rR S M19 v22 2 1) fun v24 => ob (aR S M19 v24 104 x2) fun v26 => gd ((S v20).1 = 5) (ob (f_X4_takes S M19 v20 v26) fun M31 => nm ((0 : Int32)) fun v32 => (fb_X0_meets_52 S FU M31 x0 x1 x2 v32))))))
theorem w_X0_meets {x0 : Nat} {x1 : Int32} {x2 : Int32} {r : Int32} {M' : mMm} (hF : f_X0_meets S M x0 x1 x2 = some (r, M')) : mCt l D n0 P yX0_meets cX0_meets 4 (some .int) 4 91 0 0 [.ref x0, .int x1, .int x2] S M n (some (.int r)) S M' n := by
  refine m_ofW (by decide) (Nat.le_of_ble_eq_true rfl) (fun p e s m below meth c X hnm hp ls hl => ?_)
  have hx := X.1.1
  have hb := X.1.2.1
  have hown := X.1.2.2.2.1
  have hts := X.1.2.2.2.2
  have hl : lv_has ls 4 [(0, .ref x0), (1, .int x1), (2, .int x2)] := hl
  unfold f_X0_meets at hF
  refine lv_aload_n hx hb dX0_meets_0 rfl (lv_at hl 0 rfl) ?_
  refine lv_iload_n hx hb dX0_meets_1 rfl (lv_at hl 1 rfl) ?_
  obtain ⟨g1, hF⟩ := gd_s hF
  obtain ⟨v3, e2, hF⟩ := ob_s hF
  refine m_callV (As := [.int x1]) (rest := []) X hp (w_X0_isInside e2) q1052 q1054 qs33 q132 q1055 1 rfl ds_X0_isInside ⟨Nat.le_of_ble_eq_true rfl, Nat.le_of_ble_eq_true rfl⟩ 1 (T := TX0) (N := 30) rfl (by decide) g1 hl.1 rfl (Nat.le_of_ble_eq_true rfl) dX0_meets_2 ⟨Nat.le_refl 0, Nat.le_refl 0⟩ (fun H locs hp => ?_)
  refine lv_if_eq (tgt := 16) hx hb dX0_meets_5 (by decide) (fun c4 => ?_) (fun c4 => ?_)
  · have hF := if_p c4 hF
    refine lv_iconst (v := -1) hx hb dX0_meets_16 (by decide) ?_
    cases hF
    exact m_iret X hp dX0_meets_17
  · have hF := if_n c4 hF
    refine lv_aload_n hx hb dX0_meets_8 rfl (lv_at hl 0 rfl) ?_
    refine lv_iload_n hx hb dX0_meets_9 rfl (lv_at hl 2 rfl) ?_
    obtain ⟨v6, e5, hF⟩ := ob_s hF
    refine m_callV (As := [.int x2]) (rest := []) X hp (w_X0_isInside e5) q1052 q1054 qs33 q132 q1055 1 rfl ds_X0_isInside ⟨Nat.le_of_ble_eq_true rfl, Nat.le_of_ble_eq_true rfl⟩ 1 (T := TX0) (N := 30) rfl (by decide) g1 hl.1 rfl (Nat.le_of_ble_eq_true rfl) dX0_meets_10 ⟨Nat.le_refl 0, Nat.le_refl 0⟩ (fun H locs hp => ?_)
    refine lv_if_ne (tgt := 18) hx hb dX0_meets_13 (by decide) (fun c7 => ?_) (fun c7 => ?_)
    · have hF := if_n c7 hF
      refine lv_aload_n hx hb dX0_meets_18 rfl (lv_at hl 0 rfl) ?_
      obtain ⟨v8, e9, hF⟩ := ob_s hF
      refine m_getR X hp e9 kX0 (Nat.le_of_ble_eq_true rfl) q487 dX0_meets_19 ?_
      refine lv_aload_n hx hb dX0_meets_22 rfl (lv_at hl 0 rfl) ?_
      obtain ⟨v10, e11, hF⟩ := ob_s hF
      refine m_getR X hp e11 kX0 (Nat.le_of_ble_eq_true rfl) q463 dX0_meets_23 ?_
      obtain ⟨v12, e13, hF⟩ := ob_s hF
      refine m_getRN X hp e13 kX1 (Nat.le_of_ble_eq_true rfl) q378 dX0_meets_26 ?_
      refine lv_iload_n hx hb dX0_meets_29 rfl (lv_at hl 1 rfl) ?_
      obtain ⟨v14, e15, hF⟩ := ob_s hF
      refine m_aaR 104 X hp e15 rfl (by decide) rfl dX0_meets_30 ?_
      obtain ⟨g16, hF⟩ := gd_s hF
      obtain ⟨M19, e17, hF⟩ := ob_s hF
      refine m_callV (As := [.ref v14]) (rest := []) X hp (w_X4_takes e17) q1399 q998 q999 q139 q1000 1 rfl ds_X4_takes ⟨Nat.le_of_ble_eq_true rfl, Nat.le_of_ble_eq_true rfl⟩ 5 (T := TX4) (N := 11) rfl (by decide) g16 hl.1 rfl (Nat.le_of_ble_eq_true rfl) dX0_meets_31 ⟨Nat.le_refl 0, Nat.le_refl 0⟩ (fun H locs hp => ?_)
      refine lv_aload_n hx hb dX0_meets_34 rfl (lv_at hl 0 rfl) ?_
      obtain ⟨v20, e21, hF⟩ := ob_s hF
      refine m_getR X hp e21 kX0 (Nat.le_of_ble_eq_true rfl) q488 dX0_meets_35 ?_
      refine lv_aload_n hx hb dX0_meets_38 rfl (lv_at hl 0 rfl) ?_
      obtain ⟨v22, e23, hF⟩ := ob_s hF
      refine m_getR X hp e23 kX0 (Nat.le_of_ble_eq_true rfl) q463 dX0_meets_39 ?_
      obtain ⟨v24, e25, hF⟩ := ob_s hF
      refine m_getRN X hp e25 kX1 (Nat.le_of_ble_eq_true rfl) q378 dX0_meets_42 ?_
      refine lv_iload_n hx hb dX0_meets_45 rfl (lv_at hl 2 rfl) ?_
      obtain ⟨v26, e27, hF⟩ := ob_s hF
      refine m_aaR 104 X hp e27 rfl (by decide) rfl dX0_meets_46 ?_
      obtain ⟨g28, hF⟩ := gd_s hF
      obtain ⟨M31, e29, hF⟩ := ob_s hF
      refine m_callV (As := [.ref v26]) (rest := []) X hp (w_X4_takes e29) q1399 q998 q999 q139 q1000 1 rfl ds_X4_takes ⟨Nat.le_of_ble_eq_true rfl, Nat.le_of_ble_eq_true rfl⟩ 5 (T := TX4) (N := 11) rfl (by decide) g28 hl.1 rfl (Nat.le_of_ble_eq_true rfl) dX0_meets_47 ⟨Nat.le_refl 0, Nat.le_refl 0⟩ (fun H locs hp => ?_)
      refine lv_iconst (v := 0) hx hb dX0_meets_50 (by decide) ?_
      refine lv_topi (fun v32 ev33 => ?_)
      have hF := nm_s hF ev33
      refine lv_istore_n (lv' := [(3, .int v32), (0, .ref x0), (1, .int x1), (2, .int x2)]) hx hb dX0_meets_51 rfl hl (by decide) rfl (fun ls hl => ?_)
      exact b_X0_meets_52 X _ _ _ _ _ _ _ _ _ hp (lv_sub hl [1, 2, 3, 0] rfl) hF
    · have hF := if_p c7 hF
      refine lv_iconst (v := -1) hx hb dX0_meets_16 (by decide) ?_
      cases hF
      exact m_iret X hp dX0_meets_17
end
