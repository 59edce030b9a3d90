/-! THE LAYER's ROWS that make cells; Object's constructor; an answer that is a cell; static fields -/
set_option maxRecDepth 100000
def mS1 (S : mSh) (q : Nat) (x : Nat × Nat) : mSh := fun b => if b = q then x else S b
def mM1 (M : mMm) (q : Nat) (f : Nat → Value) : mMm := fun b => if b = q then f else M b
theorem m_push {D : va_G} {n0 : Nat} {S : mSh} {M : mMm} {n : Nat} {x : Nat × Nat} {f : Nat → Value} {H H1 : Heap} (h : mWd D n0 S M n H) (hz : H1.size = n + 1) (hq : ∀ q, q < n → H1[q]? = H[q]?) (ha : mAt D (mS1 S n x) (mM1 M n f) H1 n) : mWd D n0 (mS1 S n x) (mM1 M n f) (n + 1) H1 := by
  refine ⟨hz, Nat.le_succ_of_le h.2.1, fun b hb => ?_⟩
  by_cases e : b = n
  · rw [e]; exact ⟨Or.inl h.2.1, ha⟩
  · have e1 : mS1 S n x b = S b := by simp [mS1, e]
    rw [e1] at hb
    have hlt : b < n := by rw [← h.1]; exact (h.2.2 b hb).2.lt
    exact ⟨by rw [e1]; exact (h.2.2 b hb).1, (h.2.2 b hb).2.kept (hq b hlt) (by simp [mM1, e]) e1⟩
theorem m_grow {n0 n : Nat} {H0 H H1 : Heap} {locs : List Loc} (h : va_S (mA n0) H0 H locs) (hn : H.size = n) (hz : n ≤ H1.size) (hq : ∀ q, q < n → H1[q]? = H[q]?) : va_S (mA n0) H0 H1 locs :=
  ⟨Nat.le_trans h.1 (by omega), fun q h1 h2 => (hq q (by have := h.1; omega)).trans (h.2.1 q h1 h2), h.2.2⟩
section MALLOC
variable {p : Program} {l : Launch} {e : Env} {R : Room} {s : State} {m : MethodId} {args : Array Value} {below : List Frame} {meth : Method} {c : Code} {H : Heap} {locs : List Loc} {cells slots : Nat} {Q : State → Prop}
variable {cc : ByteArray} {nL pc : Nat} {ls : Array Slot} {rest : List Value} {D : va_G} {n0 : Nat} {P : mP} {S : mSh} {M : mMm} {n : Nat} {own : String} {ret : Option FieldType}
variable {C : String} {T : u_T} {N ci index a k : Nat} {ty0 : Nat → FieldType} {i : Int32}
theorem m_objInit (X : mCx D n0 P p m c cc nL s args own meth ret) (hlink : Cond.methodLink own index Lib.objectInit ∈ lw_all) (hinst : Cond.instanceMethod Lib.objectInit ∈ lw_all) (hcode : Cond.code Lib.objectInit ⟨#[0xb1]⟩ 1 none ∈ lw_all) (hsz : ls.size = nL) (hf : 1 ≤ R.frames) (hlo : (rest.map fun v => v.category).sum + 12 ≤ R.locals) (hdg : decode cc pc = .ok (.invokespecial index, 3))
    (kk : W p l e R s m args below meth c H locs cells slots Q (F0 m (pc + 3) ls rest)) : W p l e R s m args below meth c H locs cells slots Q (F0 m pc ls (.ref a :: rest)) :=
  W.objInit X.1.1 X.1.2.1 X.1.2.2.2.1 (X.1.2.2.2.2 _ hlink) (X.1.2.2.2.2 _ hinst) (X.1.2.2.2.2 _ hcode) rfl (by rw [X.1.2.2.1]; exact hsz) rfl hdg hf (by show 2 * 0 + _ + 12 ≤ _; omega) kk
theorem m_aret {r : Nat} {rt : FieldType} (X : mCx D n0 P p m c cc nL s args own meth (some rt)) (hp : mHp D n0 S M n s H locs) (hrt : (∃ n, rt = .object n) ∨ ∃ t, rt = .array t) (hdg : decode cc pc = .ok (.areturn, 1)) :
    W p l e R s m args below meth c H locs cells slots (MQ below (mQ D n0 (some (.ref r)) S M n) args s cells slots (mA n0)) (F0 m pc ls [.ref r]) :=
  W.aret X.1.1 X.1.2.1 X.2.2.1 hrt (Or.inr ⟨r, rfl⟩) (hp.post _ _) hp.2.2.2 hdg X.2.2.2
theorem m_new (X : mCx D n0 P p m c cc nL s args own meth ret) (hp : mHp D n0 S M n s H locs) (hC : mCl ci C T N ty0) (hcl : Cond.classLink own index C ∈ lw_all) (hins : Cond.instantiable C N ∈ lw_all) (hini : Cond.initialized C ∈ lw_all) (hcells : cells + 1 ≤ R.cells) (hslots : slots + N ≤ R.slots) (hdg : decode cc pc = .ok (.new index, 3))
    (kk : ∀ H1 : Heap, mHp D n0 (mS1 S n (ci, 0)) (mM1 M n (fun k => defaultValue (ty0 k))) (n + 1) s H1 locs → W p l e R s m args below meth c H1 locs (cells + 1) (slots + N) Q (F0 m (pc + 3) ls (.ref n :: rest))) : W p l e R s m args below meth c H locs cells slots Q (F0 m pc ls rest) := by
  obtain ⟨⟨hx, hb, hml, hown, hts⟩, hO, -, -⟩ := X
  have hKn := hO.1.1 ci _ hC.2.1
  refine W.newcK hx hb hown (hts _ hcl) (hts _ hins) (hts _ hini) rfl hdg hcells hslots hKn.2.1 hp.1.1 fun H1 kC hkC e1 z1 o1 => kk H1 ⟨m_push hp.1 z1 o1 (Or.inl ?_), m_grow hp.2 hp.1.1 (by omega) o1⟩
  have e2 : mS1 S n (ci, 0) n = (ci, 0) := by simp [mS1]
  have e3 : mM1 M n (fun k => defaultValue (ty0 k)) n = fun k => defaultValue (ty0 k) := by simp [mM1]
  rw [e2, e3]
  exact ⟨hC.2.2.1.1, _, hC.2.1, u_born ty0 hts hC.1 hKn hkC e1 hC.2.2.2.1⟩
theorem m_newa (X : mCx D n0 P p m c cc nL s args own meth ret) (hp : mHp D n0 S M n s H locs) (tg : Nat) {atype : ArrayType} (ht : (mty D)[tg - 100]? = some (D.1 tg, newarray.typeOf atype)) (h100 : 100 ≤ tg) (hfc : va_RA s (D.1 tg) (newarray.typeOf atype) → s.vm.findClass ("[" ++ (newarray.typeOf atype).toString) = some (D.1 tg)) (harr : Cond.arrayClass (newarray.typeOf atype) ∈ lw_all)
    (hn : ¬ i < 0) (hbytes : i.toNatClampNeg * componentBytes (newarray.typeOf atype) ≤ 536870912) {dv : Value} (hdv : defaultValue (newarray.typeOf atype) = dv) (hcells : cells + 1 ≤ R.cells) (hslots : slots + i.toNatClampNeg ≤ R.slots) (hdg : decode cc pc = .ok (.newarray atype, 2))
    (kk : ∀ H1 : Heap, mHp D n0 (mS1 S n (tg, i.toNatClampNeg)) (mM1 M n (fun _ => dv)) (n + 1) s H1 locs → W p l e R s m args below meth c H1 locs (cells + 1) (slots + i.toNatClampNeg) Q (F0 m (pc + 2) ls (.ref n :: rest))) : W p l e R s m args below meth c H locs cells slots Q (F0 m pc ls (.int i :: rest)) := by
  obtain ⟨⟨hx, hb, hml, hown, hts⟩, hO, -, -⟩ := X
  refine W.newa hx hb (hts _ harr) rfl hdg rfl hn hbytes hcells hslots fun cA kA comp f1 f2 f3 => ?_
  have hcA : cA = D.1 tg := Option.some.inj (f1.symm.trans (hfc (hO.1.2 _ _ ht).2))
  subst hdv
  rw [arrV_new, hcA]
  generalize hH1 : H.push (arrV (D.1 tg) i.toNatClampNeg (fun _ => defaultValue (newarray.typeOf atype))) = H1
  have z1 : H1.size = n + 1 := by rw [← hH1, Array.size_push, hp.1.1]
  have e1 : H1[n]? = some (arrV (D.1 tg) i.toNatClampNeg (fun _ => defaultValue (newarray.typeOf atype))) := by rw [← hH1, ← hp.1.1, Array.getElem?_push_size]
  have o1 : ∀ q : Nat, q < n → H1[q]? = H[q]? := fun q hq => by rw [← hH1, Array.getElem?_push, if_neg (by rw [hp.1.1]; exact Nat.ne_of_lt hq)]
  refine W.eq (g2 := F0 m (pc + 2) ls (.ref n :: rest)) (by rw [hp.1.1]) ?_
  refine kk H1 ⟨m_push hp.1 z1 o1 (Or.inr ?_), m_grow hp.2 hp.1.1 (by omega) o1⟩
  have e2 : mS1 S n (tg, i.toNatClampNeg) n = (tg, i.toNatClampNeg) := by simp [mS1]
  rw [e2]
  exact ⟨h100, by simp only [mM1, if_true]; exact e1⟩
theorem m_anew (X : mCx D n0 P p m c cc nL s args own meth ret) (hp : mHp D n0 S M n s H locs) (tg : Nat) (ht : (mty D)[tg - 100]? = some (D.1 tg, .object C)) (h100 : 100 ≤ tg) (hcl : Cond.classLink own index C ∈ lw_all) (hov : Cond.arrayOver (.object C) ∈ lw_tbl)
    (hn : ¬ i < 0) (hbytes : i.toNatClampNeg * 4 ≤ 536870912) (hcells : cells + 1 ≤ R.cells) (hslots : slots + i.toNatClampNeg ≤ R.slots) (hdg : decode cc pc = .ok (.anewarray index, 3))
    (kk : ∀ H1 : Heap, mHp D n0 (mS1 S n (tg, i.toNatClampNeg)) (mM1 M n (fun _ => .null)) (n + 1) s H1 locs → W p l e R s m args below meth c H1 locs (cells + 1) (slots + i.toNatClampNeg) Q (F0 m (pc + 3) ls (.ref n :: rest))) : W p l e R s m args below meth c H locs cells slots Q (F0 m pc ls (.int i :: rest)) := by
  obtain ⟨⟨hx, hb, hml, hown, hts⟩, hO, -, -⟩ := X
  refine W.anew hx hb hown (hts _ hcl) (hO.2.1 _ hov rfl) rfl hdg rfl hn hbytes hcells hslots fun cA kA comp f1 f2 f3 f4 => ?_
  obtain ⟨kA', comp', g1, g2, g3, g4⟩ := (hO.1.2 _ _ ht).2
  have hcA : cA = D.1 tg := Option.some.inj (f1.symm.trans g4)
  rw [arrV_new, hcA]
  generalize hH1 : H.push (arrV (D.1 tg) i.toNatClampNeg (fun _ => .null)) = H1
  have z1 : H1.size = n + 1 := by rw [← hH1, Array.size_push, hp.1.1]
  have e1 : H1[n]? = some (arrV (D.1 tg) i.toNatClampNeg (fun _ => .null)) := by rw [← hH1, ← hp.1.1, Array.getElem?_push_size]
  have o1 : ∀ q : Nat, q < n → H1[q]? = H[q]? := fun q hq => by rw [← hH1, Array.getElem?_push, if_neg (by rw [hp.1.1]; exact Nat.ne_of_lt hq)]
  refine W.eq (g2 := F0 m (pc + 3) ls (.ref n :: rest)) (by rw [hp.1.1]) ?_
  refine kk H1 ⟨m_push hp.1 z1 o1 (Or.inr ?_), m_grow hp.2 hp.1.1 (by omega) o1⟩
  have e2 : mS1 S n (tg, i.toNatClampNeg) n = (tg, i.toNatClampNeg) := by simp [mS1]
  rw [e2]
  exact ⟨h100, by simp only [mM1, if_true]; exact e1⟩
/-- an array of arrays of ints: the outer one at n, its rows behind it -/
def mS2 (S : mSh) (n k w : Nat) : mSh := fun b => if b = n then (108, k) else if n < b ∧ b ≤ n + k then (100, w) else S b
def mM2 (M : mMm) (n k : Nat) : mMm := fun b => if b = n then (fun j => .ref (n + 1 + j)) else if n < b ∧ b ≤ n + k then (fun _ => .int 0) else M b
theorem outerC_arr (c : ClassId) (N h0 : Nat) : ∀ i, i ≤ N → Jvm.Free.Multi.outerC c N h0 i = arrV c N (fun j => if j < i then .ref (h0 + 1 + j) else .null) := by
  intro i
  induction i with
  | zero =>
    intro _
    show ({ cls := c, slots := Array.replicate N .null, vm := .none } : Cell) = _
    rw [arrV_new]
    congr 1
  | succ i ih =>
    intro hi
    show (Jvm.Free.Multi.outerC c N h0 i).setSlot i (.ref (h0 + 1 + i)) = _
    rw [ih (by omega), arrV_store]
    congr 1
    funext j
    by_cases h : j = i
    · subst h
      simp [updV]
    · simp only [updV, h, if_false]
      by_cases h2 : j < i
      · rw [if_pos h2, if_pos (by omega)]
      · rw [if_neg h2, if_neg (by omega)]
theorem m_multi2 {w : Int32} (X : mCx D n0 P p m c cc nL s args own meth ret) (hp : mHp D n0 S M n s H locs) (hcl : Cond.classLink own index "[[I" ∈ lw_all) (hov : Cond.arrayOver (.array .int) ∈ lw_tbl) (harr : Cond.arrayClass .int ∈ lw_all)
    (hn : ¬ i < 0) (hw : ¬ w < 0) (hb1 : i.toNatClampNeg * 4 ≤ 536870912) (hb2 : w.toNatClampNeg * 4 ≤ 536870912) (hcells : cells + (1 + i.toNatClampNeg) ≤ R.cells) (hslots : slots + (i.toNatClampNeg + i.toNatClampNeg * w.toNatClampNeg) ≤ R.slots) (hdg : decode cc pc = .ok (.multianewarray index 2, 4))
    (kk : ∀ H1 : Heap, mHp D n0 (mS2 S n i.toNatClampNeg w.toNatClampNeg) (mM2 M n i.toNatClampNeg) (n + 1 + i.toNatClampNeg) s H1 locs → W p l e R s m args below meth c H1 locs (cells + 1 + i.toNatClampNeg) (slots + i.toNatClampNeg + i.toNatClampNeg * w.toNatClampNeg) Q (F0 m (pc + 4) ls (.ref n :: rest))) : W p l e R s m args below meth c H locs cells slots Q (F0 m pc ls (.int w :: .int i :: rest)) := by
  obtain ⟨⟨hx, hb, hml, hown, hts⟩, hO, -, -⟩ := X
  intro T hT Z
  subst hT
  have hsz : T.heap.size = n := hp.1.1
  obtain ⟨vm₁, cA, comp, hW, hfA, hfC, hA1, hI1, Z1, step⟩ := Z.multianewarray2F hx (own := own) (index := index) (ty := .int) hown (hts _ hcl) (hO.2.1 _ hov rfl) (hts _ harr) (g := F0 m pc ls (.int w :: .int i :: rest)) rfl (by rw [hb]; exact hdg) rfl hn hw hb1 hb2 (by omega) rfl rfl hcells hslots
  obtain ⟨f1, f2, -, -⟩ := Jvm.Free.Multi.fill_facts (T.setVm vm₁) cA comp i.toNatClampNeg w.toNatClampNeg (defaultValue .int) i.toNatClampNeg
  have fo := fun (a : Addr) (ha : a < T.heap.size) => Jvm.Free.Multi.fill_old (T.setVm vm₁) cA comp i.toNatClampNeg w.toNatClampNeg (defaultValue .int) (a := a) ha i.toNatClampNeg
  have fi := fun (j : Nat) (hj : j < i.toNatClampNeg) => Jvm.Free.Multi.fill_inner (T.setVm vm₁) cA comp i.toNatClampNeg w.toNatClampNeg (defaultValue .int) i.toNatClampNeg j hj
  generalize hF : Jvm.Free.Multi.fill (T.setVm vm₁) cA comp i.toNatClampNeg w.toNatClampNeg (defaultValue .int) i.toNatClampNeg = T2 at f1 f2 fo fi Z1 step
  have hcA : cA = D.1 108 := by
    have h := (hO.1.2 8 _ rfl).2
    exact Option.some.inj (hfA.symm.trans h)
  have hcI : comp = D.1 100 := by
    have h := (hO.1.2 0 _ rfl).2
    exact Option.some.inj (hfC.symm.trans h)
  have e0 : (T.setVm vm₁).heap.size = n := hsz
  rw [e0] at f1 f2 fi
  rw [hsz] at step
  have hm : mHp D n0 (mS2 S n i.toNatClampNeg w.toNatClampNeg) (mM2 M n i.toNatClampNeg) (n + 1 + i.toNatClampNeg) s T2.heap locs := by
    refine ⟨⟨f1, by have := hp.1.2.1; omega, fun b hb2 => ?_⟩, m_grow hp.2 hsz (by omega) (fun q hq => fo q (by rw [hsz]; exact hq))⟩
    by_cases e : b = n
    · have e2 : mS2 S n i.toNatClampNeg w.toNatClampNeg b = (108, i.toNatClampNeg) := by simp [mS2, e]
      refine ⟨Or.inl (by rw [e]; exact hp.1.2.1), Or.inr ?_⟩
      rw [e2]
      refine ⟨by show 100 ≤ _; omega, ?_⟩
      rw [e, f2, hcA, outerC_arr _ _ _ _ (Nat.le_refl _)]
      congr 1
      unfold arrV
      congr 1
      apply Array.ext'
      simp [mM2]
    · by_cases e4 : n < b ∧ b ≤ n + i.toNatClampNeg
      · have e2 : mS2 S n i.toNatClampNeg w.toNatClampNeg b = (100, w.toNatClampNeg) := by simp only [mS2, e, e4, if_false, if_true, and_self]
        refine ⟨Or.inl (by have := hp.1.2.1; omega), Or.inr ?_⟩
        rw [e2]
        refine ⟨by show 100 ≤ _; omega, ?_⟩
        have h5 := fi (b - n - 1) (by omega)
        rw [show n + 1 + (b - n - 1) = b by omega] at h5
        rw [h5, hcI]
        show some ({ cls := _, slots := Array.replicate _ (Value.int 0), vm := .none } : Cell) = _
        rw [arrV_new]
        simp only [mM2, e, e4, if_false, if_true, and_self]
      · have e2 : mS2 S n i.toNatClampNeg w.toNatClampNeg b = S b := by simp only [mS2, e, e4, if_false]
        rw [e2] at hb2
        have hlt : b < n := by rw [← hp.1.1]; exact (hp.1.2.2 b hb2).2.lt
        exact ⟨by rw [e2]; exact (hp.1.2.2 b hb2).1, (hp.1.2.2 b hb2).2.kept (fo b (by rw [hsz]; exact hlt)) (by simp only [mM2, e, e4, if_false]) e2⟩
  obtain ⟨t, a1, b1⟩ := kk T2.heap hm T2 rfl Z1
  exact ⟨t, step t a1, b1⟩
end MALLOC
