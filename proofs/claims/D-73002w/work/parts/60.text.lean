/-! X0_text: reads a text, catches the Fault -/
set_option maxRecDepth 100000
def hhT : List (Nat × Nat × Nat × Nat) := [(10, 29, 36, 195), (10, 29, 62, 0), (36, 55, 62, 0), (62, 64, 62, 0)]
def wsT : List Cond := Cond.codeWith yX0_text cX0_text 5 (some .int) hhT :: lw_all
def mCtT (l : Launch) (D : va_G) (n0 : Nat) (P : mP) (fr lo mc ms : Nat) (av : List Value) (S : mSh) (M : mMm) (n : Nat) (v : Option Value) (S' : mSh) (M' : mMm) (n' : Nat) : Prop :=
  Met l yX0_text wsT { frames := fr, cells := mc, slots := ms, locals := lo } (mPc D n0 P av S M n) (mQ D n0 v S' M' n') mc ms (mA n0)
def f_X0_text (V : Nat → Nat) (S : mSh) (M : mMm) (n z : Nat) (x0 : Nat) (x1 : Int32) : Option (Int32 × mSh × mMm × Nat × Nat) :=
  ob (wF S M x0 1 2 (.int 0)) fun M1 => ob (wF S M1 x0 1 3 (.int (-1))) fun M2 => ob (f_X0_isIn x1 0 3) fun b =>
  if b = 0 then ob (wF S M2 x0 1 1 (.int 0)) fun M3 => some (-1, S, M3, n, z)
  else gd ((S x0).1 = 1) (ob (f_X0_reads V S M2 n z x0 x1) fun ⟨o, S1, M3, n1, z1⟩ => match o with
    | .inl r => ob (wF S1 M3 x0 1 1 (.int 0)) fun M4 => some (r, S1, M4, n1, z1)
    | .inr q => ob (rI S1 M3 q 8 0) fun k => ob (wF S1 M3 x0 1 2 (.int k)) fun M4 => ob (rI S1 M4 q 8 1) fun k2 => ob (wF S1 M4 x0 1 3 (.int k2)) fun M5 => ob (wF S1 M5 x0 1 1 (.int 0)) fun M6 => some (-1, S1, M6, n1, z1))
section
variable {l : Launch} {D : va_G} {n0 : Nat} {P : mP} {V : Nat → Nat}
theorem mn_X0_text {x0 : Nat} {x1 : Int32} {r : Int32} {S' : mSh} {M' : mMm} {n' z' : Nat} {S : mSh} {M : mMm} {n z : Nat} (hF : f_X0_text V S M n z x0 x1 = some (r, S', M', n', z')) : n ≤ n' ∧ z ≤ z' := by
  unfold f_X0_text at hF
  obtain ⟨M1, e1, hF⟩ := ob_s hF
  obtain ⟨M2, e2, hF⟩ := ob_s hF
  obtain ⟨b, e3, hF⟩ := ob_s hF
  by_cases hb0 : b = 0
  · have hF := if_p hb0 hF
    obtain ⟨M3, e4, hF⟩ := ob_s hF
    cases hF
    exact ⟨Nat.le_refl _, Nat.le_refl _⟩
  · have hF := if_n hb0 hF
    obtain ⟨hg, hF⟩ := gd_s hF
    obtain ⟨⟨o, S1, M3, n1, z1⟩, e4, hF⟩ := ob_s hF
    have hc := mn_X0_reads e4
    cases o with
    | inl r1 =>
      obtain ⟨M4, e5, hF⟩ := ob_s hF
      cases hF
      exact hc
    | inr q =>
      obtain ⟨k, e5, hF⟩ := ob_s hF
      obtain ⟨M4, e6, hF⟩ := ob_s hF
      obtain ⟨k2, e7, hF⟩ := ob_s hF
      obtain ⟨M5, e8, hF⟩ := ob_s hF
      obtain ⟨M6, e9, hF⟩ := ob_s hF
      cases hF
      exact hc
set_option maxHeartbeats 1000000 in
theorem w_X0_text {x0 : Nat} {x1 : Int32} {r : Int32} {S' : mSh} {M' : mMm} {n' z' : Nat} {S : mSh} {M : mMm} {n z : Nat} (hV : mV V n0 P) (hVs : mVs V n0 P) (hs : l.stackTraces = false) (hVx : mVx n0 P) (hF : f_X0_text V S M n z x0 x1 = some (r, S', M', n', z')) : mCtT l D n0 P 4000 60000 (n' - n) (z' - z) [.ref x0, .int x1] S M n (some (.int r)) S' M' n' := by
  refine va_MetW (cc := cX0_text) (maxL := 5) (ret := some .int) (hh := hhT) (by decide) rfl ?_
  intro p e s m args below meth c s₁ B hml hv
  obtain ⟨rfl, hW, hO⟩ := hv
  have hts0 := atoms_spec (ws := wsT) B.pre
  have htab : c.exceptionTable.toList = tableOf hhT := vx_table (x := yX0_text) B (hts0 _ List.mem_cons_self)
  have hts : ∀ w ∈ lw_all, w.before _ s = true := fun w h => hts0 w (List.mem_cons_of_mem _ h)
  have hl := lv_entry [.ref x0, .int x1] (n := 5) (Nat.le_of_ble_eq_true rfl)
  rw [lg_entry_eq]
  have X : mCx D n0 P p m c cX0_text 5 s ([.ref x0, .int x1] : List Value).toArray RX0 meth (some .int) := ⟨⟨B.exec, B.bytes, hml, findClass_of_methodNamed B.named, hts⟩, hO, B.returns, B.notSynchronized⟩
  have hp : mHp D n0 S M n s s.heap [] := ⟨hW, va_S.rf⟩
  generalize (lg_sl [.ref x0, .int x1] ++ List.replicate (5 - (lg_sl [.ref x0, .int x1]).length) Slot.unset).toArray = ls at hl ⊢
  have hl : lv_has ls 5 [(0, .ref x0), (1, .int x1)] := hl
  have hx := X.1.1
  have hb := X.1.2.1
  have hown := X.1.2.2.2.1
  have hm0 := mn_X0_text hF
  unfold f_X0_text at hF
  show W p l e { frames := 4000, cells := n' - n, slots := z' - z, locals := 60000 } s m _ below meth c s.heap [] 0 0 _ _
  refine lv_aload_n hx hb dX0_text_0 rfl (lv_at hl 0 rfl) ?_
  refine lv_iconst (v := 0) hx hb dX0_text_1 (by decide) ?_
  obtain ⟨M1, e1, hF⟩ := ob_s hF
  refine m_putW X hp e1 kX0 (Nat.le_of_ble_eq_true rfl) q461 rfl rfl rfl dX0_text_2 (fun H locs hp => ?_)
  refine lv_aload_n hx hb dX0_text_5 rfl (lv_at hl 0 rfl) ?_
  refine lv_iconst (v := -1) hx hb dX0_text_6 (by decide) ?_
  obtain ⟨M2, e2, hF⟩ := ob_s hF
  refine m_putW X hp e2 kX0 (Nat.le_of_ble_eq_true rfl) q462 rfl rfl rfl dX0_text_7 (fun H locs hp => ?_)
  refine lv_iload_n hx hb dX0_text_10 rfl (lv_at hl 1 rfl) ?_
  refine lv_iconst (v := 0) hx hb dX0_text_11 (by decide) ?_
  refine lv_iconst (v := 3) hx hb dX0_text_12 (by decide) ?_
  obtain ⟨b, e3, hF⟩ := ob_s hF
  refine m_callS (As := [.int x1, .int 0, .int 3]) (rest := []) X hp (w_X0_isIn e3) q565 q566 q132 q567 3 rfl ds_X0_isIn ⟨Nat.le_of_ble_eq_true rfl, Nat.le_of_ble_eq_true rfl⟩ hl.1 rfl (Nat.le_of_ble_eq_true rfl) dX0_text_13 ⟨Nat.zero_le _, Nat.zero_le _⟩ (fun H locs hp => ?_)
  refine lv_if_eq (tgt := 27) hx hb dX0_text_16 (by decide) (fun hb0 => ?_) (fun hb0 => ?_)
  · have hF := if_p hb0 hF
    refine lv_iconst (v := -1) hx hb dX0_text_27 (by decide) ?_
    refine lv_istore_n (lv' := [(2, .int (-1)), (0, .ref x0), (1, .int x1)]) hx hb dX0_text_28 rfl hl (by decide) rfl (fun ls hl => ?_)
    refine lv_aload_n hx hb dX0_text_29 rfl (lv_at hl 1 rfl) ?_
    refine lv_iconst (v := 0) hx hb dX0_text_30 (by decide) ?_
    obtain ⟨M3, e4, hF⟩ := ob_s hF
    refine m_putW X hp e4 kX0 (Nat.le_of_ble_eq_true rfl) q460 rfl rfl rfl dX0_text_31 (fun H locs hp => ?_)
    refine lv_iload_n hx hb dX0_text_34 rfl (lv_at hl 0 rfl) ?_
    cases hF
    refine W.widen (k := n' - n') (n := z' - z') (by omega) (by omega) ?_
    exact m_iret X hp dX0_text_35
  · have hF := if_n hb0 hF
    obtain ⟨hg, hF⟩ := gd_s hF
    refine lv_aload_n hx hb dX0_text_19 rfl (lv_at hl 0 rfl) ?_
    refine lv_iload_n hx hb dX0_text_20 rfl (lv_at hl 1 rfl) ?_
    obtain ⟨⟨o, S1, M3, n1, z1⟩, e4, hF⟩ := ob_s hF
    have hc := mn_X0_reads e4
    have hR := w_X0_reads (l := l) (D := D) hV hVs hs hVx e4
    cases o with
    | inl r1 =>
      have hF : ob (wF S1 M3 x0 1 1 (.int 0)) (fun M4 => some (r1, S1, M4, n1, z1)) = some (r, S', M', n', z') := hF
      obtain ⟨M4, e5, hF⟩ := ob_s hF
      cases hF
      refine xm_callV (As := [.int x1]) (rest := []) X hp hR q573 q575 qs4 q132 q576 1 rfl ds_X0_reads ⟨Nat.le_of_ble_eq_true rfl, Nat.le_of_ble_eq_true rfl⟩ 1 (T := TX0) (N := 30) rfl (by decide) hg hl.1 rfl (Nat.le_of_ble_eq_true rfl) dX0_text_21 ⟨by show _ ≤ n' - n; omega, by show _ ≤ z' - z; omega⟩ (fun H locs hp => ?_)
      refine W.widen (k := n' - n) (n := z' - z) (by omega) (by omega) ?_
      refine lv_goto (tgt := 28) hx hb dX0_text_24 (by decide) ?_
      refine lv_istore_n (lv' := [(2, .int r), (0, .ref x0), (1, .int x1)]) hx hb dX0_text_28 rfl hl (by decide) rfl (fun ls hl => ?_)
      refine lv_aload_n hx hb dX0_text_29 rfl (lv_at hl 1 rfl) ?_
      refine lv_iconst (v := 0) hx hb dX0_text_30 (by decide) ?_
      refine m_putW X hp e5 kX0 (Nat.le_of_ble_eq_true rfl) q460 rfl rfl rfl dX0_text_31 (fun H locs hp => ?_)
      refine lv_iload_n hx hb dX0_text_34 rfl (lv_at hl 0 rfl) ?_
      exact m_iret X hp dX0_text_35
    | inr q =>
      have hF : ob (rI S1 M3 q 8 0) (fun k => ob (wF S1 M3 x0 1 2 (.int k)) fun M4 => ob (rI S1 M4 q 8 1) fun k2 => ob (wF S1 M4 x0 1 3 (.int k2)) fun M5 => ob (wF S1 M5 x0 1 1 (.int 0)) fun M6 => some (-1, S1, M6, n1, z1)) = some (r, S', M', n', z') := hF
      obtain ⟨k, e5, hF⟩ := ob_s hF
      obtain ⟨M4, e6, hF⟩ := ob_s hF
      obtain ⟨k2, e7, hF⟩ := ob_s hF
      obtain ⟨M5, e8, hF⟩ := ob_s hF
      obtain ⟨M6, e9, hF⟩ := ob_s hF
      cases hF
      refine xm_backT hp (xm_runV (As := [.int x1]) (rest := []) X hp hR q573 q575 qs4 q132 q576 1 rfl ds_X0_reads ⟨Nat.le_of_ble_eq_true rfl, Nat.le_of_ble_eq_true rfl⟩ 1 (T := TX0) (N := 30) rfl (by decide) hg hl.1 (Nat.le_of_ble_eq_true rfl) dX0_text_21 ⟨by show _ ≤ n' - n; omega, by show _ ≤ z' - z; omega⟩) (fun H locs ce hp h8 hce hcv hcl => ?_)
      refine vx_catch (own := RX0) (name := RX7) (E := RX7) hown [] ⟨10, 29, 36, 195⟩ [⟨10, 29, 62, 0⟩, ⟨36, 55, 62, 0⟩, ⟨62, 64, 62, 0⟩] htab (fun _ h => by cases h) (by decide) (by decide) (hts _ q572) (va_Nw.use rfl (X.2.1.2.1 _ q745 rfl)) hce hcv hcl ?_
      refine W.widen (k := n' - n) (n := z' - z) (by omega) (by omega) ?_
      show W p l e _ s m _ below meth c H locs _ _ _ (F0 m 36 ls [.ref q])
      refine lv_astore_n (lv' := [(2, .ref q), (0, .ref x0), (1, .int x1)]) hx hb dX0_text_36 rfl hl (by decide) rfl (fun ls hl => ?_)
      refine lv_aload_n hx hb dX0_text_37 rfl (lv_at hl 1 rfl) ?_
      refine lv_aload_n hx hb dX0_text_38 rfl (lv_at hl 0 rfl) ?_
      refine m_getIN X hp e5 kX7 (Nat.le_of_ble_eq_true rfl) q788 dX0_text_39 ?_
      refine m_putW X hp e6 kX0 (Nat.le_of_ble_eq_true rfl) q461 rfl rfl rfl dX0_text_42 (fun H locs hp => ?_)
      refine lv_aload_n hx hb dX0_text_45 rfl (lv_at hl 1 rfl) ?_
      refine lv_aload_n hx hb dX0_text_46 rfl (lv_at hl 0 rfl) ?_
      refine m_getIN X hp e7 kX7 (Nat.le_of_ble_eq_true rfl) q790 dX0_text_47 ?_
      refine m_putW X hp e8 kX0 (Nat.le_of_ble_eq_true rfl) q462 rfl rfl rfl dX0_text_50 (fun H locs hp => ?_)
      refine lv_iconst (v := -1) hx hb dX0_text_53 (by decide) ?_
      refine lv_istore_n (lv' := [(3, .int (-1)), (2, .ref q), (0, .ref x0), (1, .int x1)]) hx hb dX0_text_54 rfl hl (by decide) rfl (fun ls hl => ?_)
      refine lv_aload_n hx hb dX0_text_55 rfl (lv_at hl 2 rfl) ?_
      refine lv_iconst (v := 0) hx hb dX0_text_56 (by decide) ?_
      refine m_putW X hp e9 kX0 (Nat.le_of_ble_eq_true rfl) q460 rfl rfl rfl dX0_text_57 (fun H locs hp => ?_)
      refine lv_iload_n hx hb dX0_text_60 rfl (lv_at hl 0 rfl) ?_
      exact m_iret X hp dX0_text_61
end
