/-! rows of the law's body -/
theorem lw_01 {α : Type} {x y : Int32} {a b : α} (h : some (x, a) = some (y, b)) : x = y := by cases h; rfl
theorem nm_ex {α β : Type} {x : α} {k : α → Option β} {z : β} (h : nm x k = some z) : ∃ y, y = x ∧ k y = some z := ⟨x, rfl, h⟩
section LROWS
variable {p : Program} {l : Launch} {e : Env} {R : Room} {s : State} {m : MethodId} {args : Array Value} {below : List Frame} {meth : Method} {c : Code} {H : Heap} {locs : List Loc} {cells slots : Nat} {Q : State → Prop}
variable {cc : ByteArray} {nL pc : Nat} {ls : Array Slot} {rest : List Value} {D : va_G} {n0 : Nat} {P : mP} {S : mSh} {M : mMm} {n : Nat} {own : String} {ret0 : Option FieldType}
theorem m_lret {b z : Nat} (X : mCx D n0 P p m c cL_law 4 s #[Value.ref b] "WindingSquareLaw" meth (some .boolean)) (hn0 : s.heap.size = n0) (hp : mHp D n0 S M n s H locs) (hbd : n - n0 ≤ 601024 ∧ z ≤ 7293034) (hdg : decode cL_law pc = .ok (.ireturn, 1)) :
    W p l e room_1 s m #[Value.ref b] below meth c H locs (n - n0) z (lw_Z below #[Value.ref b] s) (F0 m pc ls [.int 1]) := by
  refine W.widen (k := 601024) (n := 7293034) hbd.1 hbd.2 ?_
  have h := W.forget (locs := []) (L := locs) (fun q hq => by rw [hn0]; exact hp.2.2.2 q hq) (lw_ret (p := p) (l := l) (e := e) (s := s) (m := m) (below := below) (meth := meth) (c := c) (b := b) (H := H) (ls := ls) X.1.1 X.1.2.1 X.2.2.1 X.2.2.2 hdg)
  exact h
theorem m_callTx {b : Nat} {k : Int32} {index mc ms : Nat} {v : Option Value} {S' : mSh} {M' : mMm} {n' : Nat} (X : mCx D n0 P p m c cc nL s args own meth ret0) (hp : mHp D n0 S M n s H locs) (hC : mCtT l D n0 P 4000 60000 mc ms [.ref b, .int k] S M n v S' M' n')
    (q1 : Cond.methodLink own index yX0_text ∈ lw_all) (hb : (S b).1 = 1)
    (hsz : ls.size = nL) (hroom : (rest.map fun v => v.category).sum ≤ 8) (hdg : decode cc pc = .ok (.invokevirtual index, 3)) (hf : cells + mc ≤ R.cells ∧ slots + ms ≤ R.slots)
    (hR : 4000 + 1 ≤ R.frames ∧ 8 + (5 + 11) + 60000 ≤ R.locals)
    (kk : ∀ (H1 : Heap) (locs1 : List Loc), mHp D n0 S' M' n' s H1 locs1 → W p l e R s m args below meth c H1 locs1 (cells + mc) (slots + ms) Q (F0 m (pc + 3) ls (v.toList ++ rest))) : W p l e R s m args below meth c H locs cells slots Q (F0 m pc ls (.int k :: .ref b :: rest)) := by
  obtain ⟨-, cell, g1, g2, g3, -⟩ := hp.obj (ci := 1) hb (by decide) rfl
  have hts := X.1.2.2.2.2
  refine m_back hp (vx_runVW (As := [.int k]) (rest := rest) (hh := hhT) X.1 hC (vx_cwVW 1 hts (lw_VW q1 q569 q570 q132 q571) rfl rfl rfl ⟨rfl, ds_X0_text⟩ hR) ⟨mPc.blind, ⟨cell, g1, by rw [g3]; rfl, by rw [g2]; exact (X.2.1.1.1 1 _ rfl).2.1⟩, m_pre X hp [.ref b, .int k]⟩ rfl rfl hsz rfl (lv_room hroom) hdg hf) kk
end LROWS
