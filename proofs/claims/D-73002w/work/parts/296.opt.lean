/-! a local or an argument that may be null -/
def mrO (x : Option Nat) : Value := match x with
  | none => .null
  | some a => .ref a
section MOPT
variable {p : Program} {l : Launch} {e : Env} {R : Room} {s : State} {m : MethodId} {args : Array Value} {below : List Frame} {meth : Method} {c : Code} {H : Heap} {locs : List Loc} {cells slots : Nat} {Q : State → Prop}
variable {cc : ByteArray} {nL pc : Nat} {ls : Array Slot} {rest : List Value} {x : Option Nat}
theorem m_aloadO (hexec : p.tables.exec = Jvm.exec) (hb : c.code = cc) {i : Nat} (hdg : decode cc pc = .ok (.aload i, 2)) (hl : ls[i]? = some (.val (mrO x)))
    (k : W p l e R s m args below meth c H locs cells slots Q (F0 m (pc + 2) ls (mrO x :: rest))) : W p l e R s m args below meth c H locs cells slots Q (F0 m pc ls (rest)) := by
  intro T hT X
  obtain ⟨t, a, b⟩ := k T hT X
  refine ⟨t, ?_, b⟩
  cases x with
  | none =>
    have hl : ls[i]? = some (.val .null) := hl
    jvm_step X.here [X.here.top, hexec, hb, hdg, hl, Value.isRef]
    exact a
  | some y =>
    have hl : ls[i]? = some (.val (.ref y)) := hl
    jvm_step X.here [X.here.top, hexec, hb, hdg, hl, Value.isRef]
    exact a
theorem m_astoreO (hexec : p.tables.exec = Jvm.exec) (hb : c.code = cc) {i : Nat} {lv lv' : List (Nat × Value)} (hdg : decode cc pc = .ok (.astore i, 2)) (h : lv_has ls nL lv) (hn : i < nL) (hl : (i, mrO x) :: lv.filter (fun q => !(q.1 == i) && !(q.1 + 1 == i && q.2.category == 2)) = lv')
    (kk : ∀ ls' : Array Slot, lv_has ls' nL lv' → W p l e R s m args below meth c H locs cells slots Q (F0 m (pc + 2) ls' rest)) : W p l e R s m args below meth c H locs cells slots Q (F0 m pc ls (mrO x :: rest)) := by
  cases x with
  | none =>
    obtain ⟨ls', e', h'⟩ := lv_store1 (v := .null) h hn rfl
    intro T hT X
    obtain ⟨t, a, b⟩ := kk ls' (hl ▸ h') T hT X
    refine ⟨t, ?_, b⟩
    jvm_step X.here [X.here.top, ↓top_set X.here.top, hexec, hb, hdg, e', Value.isRef, mrO]
    exact a
  | some y =>
    obtain ⟨ls', e', h'⟩ := lv_store1 (v := .ref y) h hn rfl
    intro T hT X
    obtain ⟨t, a, b⟩ := kk ls' (hl ▸ h') T hT X
    refine ⟨t, ?_, b⟩
    jvm_step X.here [X.here.top, ↓top_set X.here.top, hexec, hb, hdg, e', Value.isRef, mrO]
    exact a
end MOPT
