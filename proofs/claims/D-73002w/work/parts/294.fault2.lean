/-! the contract of Fault's constructor -/
set_option maxRecDepth 100000
def flGood : List Cond := (flAtoms.filter vx_no).filter goodWord
theorem fl_in : ∀ w ∈ flGood, w ∈ lw_all := lw_in flGood [152, 763, 772, 774, 777, 779, 764, 765, 168, 169, 766, 771, 775, 792, 753, 793, 755, 794, 757, 767, 769, 759, 784, 785, 786, 764, 783, 750, 751, 752, 754, 756, 758, 762, 761, 760, 795, 797] (by decide +kernel) (by decide +kernel)
theorem fl_bad : (flAtoms.filter vx_no).filter (fun w => !goodWord w) = [Cond.declares ⟨"java/lang/Throwable", "<init>", "()V"⟩] := by decide +kernel
def mVx (n0 : Nat) (P : mP) : Prop := ∀ (U : State) (H : Heap), P U H → vx_Zq Bundle.tN "UNASSIGNED_STACK" Bundle.steD (mA n0) U H ∧ vx_Zq Bundle.tN "SUPPRESSED_SENTINEL" Bundle.listD (mA n0) U H
def mFresh (D : va_G) (U : State) (H : Heap) (a : Nat) : Prop := ∃ kX : Class, U.vm.classes[D.1 8]? = some kX ∧ H[a]? = some (freshCell (D.1 8) kX)
theorem mFresh.moved {D : va_G} {u U : State} {H : Heap} {a : Nat} (hvm : u.vm.Alike U.vm) (h : mFresh D u H a) : mFresh D U H a := by
  obtain ⟨k, h1, h2⟩ := h
  obtain ⟨k', hk', he⟩ := hvm.2.2 _ _ h1
  exact ⟨k', hk', by rw [h2, he]⟩
section XF2
variable {p : Program} {l : Launch} {e : Env} {R : Room} {s : State} {m : MethodId} {args : Array Value} {below : List Frame} {meth : Method} {c : Code} {H : Heap} {locs : List Loc} {cells slots : Nat} {Q : State → Prop}
variable {cc : ByteArray} {nL pc : Nat} {ls : Array Slot} {rest : List Value} {D : va_G} {n0 : Nat} {P : mP} {S : mSh} {M : mMm} {n : Nat} {own : String} {ret : Option FieldType}
theorem fl_all (X : mCx D n0 P p m c cc nL s args own meth ret) (hVx : mVx n0 P) : ∀ w ∈ flAtoms, w.before args s = true := by
  obtain ⟨hU, hN⟩ := hVx _ _ X.2.1.2.2.2.1
  refine vx_own ?_ (vx_isRefq hU.1) (vx_isRefq hN.1) hU.2.word hN.2.word
  refine vx_hat (B := [Cond.declares ⟨"java/lang/Throwable", "<init>", "()V"⟩]) (fun w hw => X.1.2.2.2.2 _ (fl_in w hw)) (fun w hw => by rw [fl_bad] at hw; exact hw) ?_
  intro w hw
  rw [List.mem_singleton.mp hw]
  exact va_Nw.use rfl (X.2.1.2.1 _ q748 rfl)
theorem m_super0 (X : mCx D n0 P p m c cc nL s args RX7 meth ret) (hp : mHp D n0 S M n s H []) (hs : l.stackTraces = false) (hVx : mVx n0 P) {a : Nat} (ha : (S a).1 = 8) (hF : mFresh D s H a) (hH : H = s.heap) (hsz : ls.size = nL) (hf : 3 < R.frames) (hlo : (rest.map fun v => v.category).sum + 54 ≤ R.locals) (hdg : decode cc pc = .ok (.invokespecial 1, 3))
    (kk : ∀ (H1 : Heap) (locs1 : List Loc), mHp D n0 S M n s H1 locs1 → W p l e R s m args below meth c H1 locs1 cells slots Q (F0 m (pc + 3) ls rest)) : W p l e R s m args below meth c H [] cells slots Q (F0 m pc ls (.ref a :: rest)) := by
  intro T hT Z
  subst hT
  obtain ⟨kX, hkX, hcell⟩ := hF
  obtain ⟨hn, cell0, q1, q2, q3, q4⟩ := hp.obj ha kX7.2.2.1 kX7.2.1
  obtain ⟨hSl, hfc, kC, hkC, hkind⟩ := X.2.1.1.1 8 _ kX7.2.1
  cases hkX.symm.trans hkC
  have htr : e.platform.stackTraces = false := (show e.platform.stackTraces = l.stackTraces by rw [Z.admits.platform]).trans hs
  obtain ⟨V, ce, L, Z1, hL, hV, hc1, hc2, hkeep, st⟩ := x_super0 Z X.1.1 htr X.1.2.2.2.1 (fl_all X hVx) (fun _ h => by cases h) hfc hkX hkind hcell
    (fun aS cS h1 h2 h3 => by
      rw [h3, ← hH, hcell] at h1
      cases h1
      cases h2) (g := F0 m pc ls (.ref a :: rest)) rfl (by rw [X.1.2.2.1]; exact hsz) (rest := rest) rfl (by rw [X.1.2.1]; exact hdg) hf (by show 2 * 0 + _ + _ ≤ _; omega)
  have hlt : a < T.heap.size := (Array.getElem?_eq_some_iff.mp hcell).1
  have e1 : (V.setCell a ce).heap[a]? = some ce := heapAt_setCell_self _ (by rw [hV]; exact hlt)
  have e3 : ∀ q, q ≠ a → (V.setCell a ce).heap[q]? = T.heap[q]? := fun q hq => by rw [heapAt_setCell_ne _ (Ne.symm hq), hV]
  have e2 : (V.setCell a ce).heap.size = T.heap.size := by rw [size_setCell, hV]
  rw [hcell] at q1
  cases q1
  have hm : mHp D n0 S M n s (V.setCell a ce).heap ([] ++ L) := by
    refine ⟨⟨by rw [e2]; exact hp.1.1, hp.1.2.1, fun b hb => ⟨(hp.1.2.2 b hb).1, ?_⟩⟩, ⟨by rw [e2]; exact hp.2.1, fun q g1 g2 => by rw [e3 q (fun z => g2 (by rw [z]; exact hn))]; exact hp.2.2.1 q g1 g2, fun q hq => ?_⟩⟩
    · by_cases hba : b = a
      · rw [hba]
        refine Or.inl ⟨by rw [ha]; decide, _, by rw [ha]; exact kX7.2.1, ?_⟩
        rw [ha]
        refine ⟨ce, e1, hc1, hc2, fun k hk => ?_⟩
        obtain ⟨cf, kf, fi, f, hi, hsl⟩ := hSl k hk
        rw [← q4 k hk, ← hsl]
        have hnm : f.name = (TX7k k).2.1 := (State.fieldFound?_type hi (kX7.2.2.2.1 k hk)).1
        refine hkeep _ _ _ _ _ _ _ hi (u_lays X.1.2.2.2.2 in_X7k hk) ?_ ?_ ?_ <;> (rw [hnm]; match k, hk with | 0, _ => decide | 1, _ => decide | k + 2, h => exact absurd h (by show ¬ k + 2 < 2; omega))
      · exact (hp.1.2.2 b hb).2.kept (e3 b hba) rfl
    · rcases List.mem_append.mp hq with h | h
      · cases h
      · show n0 ≤ q.base
        rw [hL q h]; exact hn
  obtain ⟨t, a1, b1⟩ := kk _ _ hm _ rfl Z1
  exact ⟨t, st t a1, b1⟩
end XF2
/-- Fault(kind, place) on a fresh cell -/
theorem w_X7_init {l : Launch} {D : va_G} {n0 : Nat} {P : mP} {S : mSh} {M M1 M2 : mMm} {n a : Nat} {k q : Int32} (hs : l.stackTraces = false) (hVx : mVx n0 P) (e1 : wF S M a 8 0 (.int k) = some M1) (e2 : wF S M1 a 8 1 (.int q) = some M2) :
    Met l yX7_init (ws_ yX7_init cX7_init 3 none) { frames := 4, cells := 0, slots := 0, locals := 120 } (fun v U => mPc D n0 P [.ref a, .int k, .int q] S M n v U ∧ mFresh D U U.heap a) (mQ D n0 none S M2 n) 0 0 (mA n0) := by
  refine Met.ofW (cc := cX7_init) (maxL := 3) (ret := none) (by decide) rfl ?_
  intro p e s m args below meth c s₁ B hml hv
  obtain ⟨⟨rfl, hW, hO⟩, hFr⟩ := hv
  have hts := atoms_spec (ws := ws_ yX7_init cX7_init 3 none) B.pre
  have hts : ∀ w ∈ lw_all, w.before _ s = true := fun w h => hts w (List.mem_cons_of_mem _ h)
  have hl := lv_entry [.ref a, .int k, .int q] (n := 3) (Nat.le_of_ble_eq_true rfl)
  rw [lg_entry_eq]
  have X : mCx D n0 P p m c cX7_init 3 s ([.ref a, .int k, .int q] : List Value).toArray RX7 meth none := ⟨⟨B.exec, B.bytes, hml, findClass_of_methodNamed B.named, hts⟩, hO, B.returns, B.notSynchronized⟩
  have hnm : meth.name = "<init>" := (name_of_methodNamed B.named B.method).1
  have hp : mHp D n0 S M n s s.heap [] := ⟨hW, va_S.rf⟩
  generalize (lg_sl [.ref a, .int k, .int q] ++ List.replicate (3 - (lg_sl [.ref a, .int k, .int q]).length) Slot.unset).toArray = ls at hl ⊢
  have hl : lv_has ls 3 [(0, .ref a), (1, .int k), (2, .int q)] := hl
  have hx := X.1.1
  have hb := X.1.2.1
  refine lv_aload_n hx hb dX7_init_0 rfl (lv_at hl 0 rfl) ?_
  refine m_super0 X hp hs hVx (wF_s e1).1 hFr rfl hl.1 (Nat.le_of_ble_eq_true rfl) (Nat.le_of_ble_eq_true rfl) dX7_init_1 (fun H locs hp => ?_)
  refine lv_aload_n hx hb dX7_init_4 rfl (lv_at hl 0 rfl) ?_
  refine lv_iload_n hx hb dX7_init_5 rfl (lv_at hl 1 rfl) ?_
  refine m_putWF X hp e1 kX7 (Nat.le_of_ble_eq_true rfl) q787 rfl hnm rfl rfl rfl dX7_init_6 (fun H locs hp => ?_)
  refine lv_aload_n hx hb dX7_init_9 rfl (lv_at hl 0 rfl) ?_
  refine lv_iload_n hx hb dX7_init_10 rfl (lv_at hl 2 rfl) ?_
  refine m_putWF X hp e2 kX7 (Nat.le_of_ble_eq_true rfl) q789 rfl hnm rfl rfl rfl dX7_init_11 (fun H locs hp => ?_)
  exact m_vret X hp dX7_init_14
