/-! the machine's step and the layer's row for int[][][] -/
set_option maxRecDepth 100000
section M3S
variable {p : Program} {l : Launch} {e : Env} {R : Room} {s : State} {m : MethodId} {args : Array Value} {below : List Frame} {meth : Method} {c : Code} {T : State} {locs : List Loc} {cells slots : Nat}
theorem filled3 (X : Stand p l e R s m args below meth c T locs cells slots) (cA comp comp2 : ClassId) (N M K : Nat) (dv : Value) :
    ∀ i, ∃ L : List Loc, Stand p l e R s m args below meth c (fill3 T cA comp comp2 N M K dv i) (locs ++ L) (cells + 1 + i * (1 + M)) (slots + N + i * (M + M * K)) ∧ ∀ q ∈ L, T.heap.size ≤ q.base
  | 0 => by
    refine ⟨[], ?_, fun q h => by cases h⟩
    have h := X.pushed (o3C cA N T.heap.size (1 + M) 0)
    rw [(o3C_facts cA N T.heap.size (1 + M) 0).2.2] at h
    simpa [fill3] using h
  | i + 1 => by
    obtain ⟨L, Xi, hL⟩ := filled3 X cA comp comp2 N M K dv i
    obtain ⟨f1, f2, f3, f4, f5, f6⟩ := fill3_facts T cA comp comp2 N M K dv i
    have X2 := Xi.filled comp comp2 M K dv M
    have hlt0 : T.heap.size < (fill3 T cA comp comp2 N M K dv i).heap.size := by rw [f1]; omega
    have hcell : (Jvm.Free.Multi.fill (fill3 T cA comp comp2 N M K dv i) comp comp2 M K dv M).heap[T.heap.size]? = some (o3C cA N T.heap.size (1 + M) i) := by
      rw [Jvm.Free.Multi.fill_old _ _ _ _ _ _ hlt0]; exact f2
    have h := X2.stored hcell i (.ref (T.heap.size + 1 + i * (1 + M)))
    refine ⟨L ++ ((List.range M).map fun j => (⟨(fill3 T cA comp comp2 N M K dv i).heap.size, j⟩ : Loc)) ++ [⟨T.heap.size, i⟩], ?_, fun q hq => ?_⟩
    · have e1 : cells + 1 + (i + 1) * (1 + M) = cells + 1 + i * (1 + M) + 1 + M := by rw [Nat.succ_mul]; omega
      have e2 : slots + N + (i + 1) * (M + M * K) = slots + N + i * (M + M * K) + M + M * K := by rw [Nat.succ_mul]; omega
      have e3 : locs ++ (L ++ ((List.range M).map fun j => (⟨(fill3 T cA comp comp2 N M K dv i).heap.size, j⟩ : Loc)) ++ [⟨T.heap.size, i⟩]) = locs ++ L ++ ((List.range M).map fun j => (⟨(fill3 T cA comp comp2 N M K dv i).heap.size, j⟩ : Loc)) ++ [⟨T.heap.size, i⟩] := by simp [List.append_assoc]
      rw [e1, e2, e3]
      exact h
    · rcases List.mem_append.mp hq with h1 | h1
      · rcases List.mem_append.mp h1 with h2 | h2
        · exact hL q h2
        · obtain ⟨j, -, hj⟩ := List.mem_map.mp h2
          rw [← hj]
          exact Nat.le_of_lt hlt0
      · rw [List.mem_singleton.mp h1]
        exact Nat.le_refl _
theorem multianewarray3 (X : Stand p l e R s m args below meth c T locs cells slots) (hexec : p.tables.exec = Jvm.exec) {own : String} {index : Nat}
    (hown : s.vm.findClass own = some m.cls) (hclink : (Cond.classLink own index ("[" ++ (FieldType.array (.array .int)).toString)).before args s = true)
    (hover : (Cond.arrayOver (.array (.array .int))).before args s = true) (hover2 : (Cond.arrayOver (.array .int)).before args s = true) (harr : (Cond.arrayClass .int).before args s = true)
    {g : JFrame} (hg : g.method = m) (hdg : decode c.code g.pc = .ok (.multianewarray index 3, 4)) {n k q : Int32} {rest : List Value} (hstack : g.stack = .int q :: .int k :: .int n :: rest)
    (hn : ¬ n < 0) (hk : ¬ k < 0) (hq : ¬ q < 0) (hb1 : n.toNatClampNeg * 4 ≤ 536870912) (hb2 : k.toNatClampNeg * 4 ≤ 536870912) (hb3 : q.toNatClampNeg * 4 ≤ 536870912)
    (hcells : cells + (1 + n.toNatClampNeg * (1 + k.toNatClampNeg)) ≤ R.cells) (hslots : slots + (n.toNatClampNeg + n.toNatClampNeg * (k.toNatClampNeg + k.toNatClampNeg * q.toNatClampNeg)) ≤ R.slots) :
    ∃ (vm₁ : Vm) (cA comp comp2 : ClassId) (L : List Loc), s.WarmedH vm₁ ∧ s.vm.findClass ("[" ++ (FieldType.array (.array .int)).toString) = some cA ∧ s.vm.findClass (FieldType.array (.array .int)).toString = some comp ∧ s.vm.findClass (FieldType.array .int).toString = some comp2 ∧
      Stand p l e R s m args below meth c (fill3 (T.setVm vm₁) cA comp comp2 n.toNatClampNeg k.toNatClampNeg q.toNatClampNeg (defaultValue .int) n.toNatClampNeg) (locs ++ L) (cells + 1 + n.toNatClampNeg * (1 + k.toNatClampNeg)) (slots + n.toNatClampNeg + n.toNatClampNeg * (k.toNatClampNeg + k.toNatClampNeg * q.toNatClampNeg)) ∧ (∀ z ∈ L, T.heap.size ≤ z.base) ∧
      ∀ target, Steps p.tables e below ((fill3 (T.setVm vm₁) cA comp comp2 n.toNatClampNeg k.toNatClampNeg q.toNatClampNeg (defaultValue .int) n.toNatClampNeg).setTop { g with pc := g.pc + 4, stack := .ref T.heap.size :: rest }) target →
        Steps p.tables e below (T.setTop g) target := by
  subst hg
  have hpl : e.platform.magicAccessors = ({} : Platform).magicAccessors := by rw [X.admits.platform]
  obtain ⟨comp, cA, kA, hcomp, hkA, hkindA, hnameA⟩ := Cond.arrayOver_specA hover
  obtain ⟨comp2, c2, k2, hcomp2, hk2, hkind2, hname2⟩ := Cond.arrayOver_specA hover2
  obtain ⟨comp', kC, cc, hcomp', hkC, hkindC⟩ := Cond.arrayClass_spec harr
  have ecomp : comp' = comp2 := Option.some.inj (hcomp'.symm.trans hcomp2)
  subst ecomp
  have ec2 : c2 = comp := Option.some.inj (hname2.symm.trans hcomp)
  subst ec2
  obtain ⟨c0, hfc0, hcl⟩ := Cond.classLink_spec hown hclink e.platform hpl
  cases hnameA.symm.trans hfc0
  obtain ⟨hg₁, hwarm₁, hready₁⟩ := State.classEntry (e := e) X.warmed hcl
  generalize T.vm.noted g.method.cls index (.cls cA) = vm₁ at hg₁ hwarm₁ hready₁
  have hal : s.vm.Alike vm₁ := hwarm₁.alike
  obtain ⟨kA₁, hkA₁, heA⟩ := hal.2.2 _ _ hkA
  obtain ⟨k2₁, hk2₁, he2⟩ := hal.2.2 _ _ hk2
  obtain ⟨kC₁, hkC₁, heC⟩ := hal.2.2 _ _ hkC
  have hkindA₁ : kA₁.kind = .array c2 (.array (.array .int)) := by rw [heA]; exact hkindA
  have hkind2₁ : k2₁.kind = .array comp' (.array .int) := by rw [he2]; exact hkind2
  have hkindC₁ : kC₁.kind = .array cc .int := by rw [heC]; exact hkindC
  have X₁ := X.noted hwarm₁
  obtain ⟨hr1, hr2⟩ := X.roomAbove hcells hslots
  obtain ⟨L, XF, hL⟩ := filled3 X₁ cA c2 comp' n.toNatClampNeg k.toNatClampNeg q.toNatClampNeg (defaultValue .int) n.toNatClampNeg
  refine ⟨vm₁, cA, c2, comp', L, hwarm₁, hnameA, hcomp, hcomp2, XF, hL, fun target hrest => ?_⟩
  have hl1 : ¬ n.toNatClampNeg > e.platform.arrayLengthLimit := by rw [Launch.admits_arrayLengthLimit X.admits]; omega
  have hh1 : ¬ n.toNatClampNeg * componentBytes (.array (.array .int)) > e.platform.maxHeapBytes := by
    rw [Launch.admits_maxHeapBytes X.admits]; show ¬ n.toNatClampNeg * 4 > 536870912; omega
  have hl2 : ¬ k.toNatClampNeg > e.platform.arrayLengthLimit := by rw [Launch.admits_arrayLengthLimit X.admits]; omega
  have hh2 : ¬ k.toNatClampNeg * componentBytes (.array .int) > e.platform.maxHeapBytes := by
    rw [Launch.admits_maxHeapBytes X.admits]; show ¬ k.toNatClampNeg * 4 > 536870912; omega
  have hl3 : ¬ q.toNatClampNeg > e.platform.arrayLengthLimit := by rw [Launch.admits_arrayLengthLimit X.admits]; omega
  have hh3 : ¬ q.toNatClampNeg * componentBytes .int > e.platform.maxHeapBytes := by
    rw [Launch.admits_maxHeapBytes X.admits]; show ¬ q.toNatClampNeg * 4 > 536870912; omega
  jvm_step X.here [hexec, hdg]
  simp only [multianewarray.sem, wp_bind', Jvm.W.resolveClassAt_links (State.method?_setTop g X.here.top) hg₁]
  rw [Jvm.W.popN, if_neg (by decide)]
  refine ⟨g, State.topJava?_setTop' (s := T.setVm vm₁) g X.here.top, [.int n, .int k, .int q], rest, rfl, hstack, ?_⟩
  simp only [List.mapM_cons, List.mapM_nil, wp_bind', wp_pure']
  refine wp_make3 (k := kA₁) (k2 := k2₁) (kc := kC₁) (comp := c2) (comp2 := comp') (cc := cc) (t0 := .array (.array .int)) (t1 := .array .int) (type := .int) hkA₁ hkindA₁ rfl hk2₁ hkind2₁ rfl hkC₁ hkindC₁ hn hk hq hl1 hh1 hl2 hh2 hl3 hh3 rfl rfl (by show T.heap.size + 1 + _ ≤ _; omega) (by show T.slotsUsed + _ + _ ≤ _; omega) (fun d' acts' => ?_)
  have eS : ((T.setTop g).setVm vm₁).setTop { g with stack := rest } = (T.setVm vm₁).setTop { g with stack := rest } := by
    show ((T.setVm vm₁).setTop g).setTop _ = _
    rw [State.setTop_setTop]
  rw [eS, fill_setTop3]
  simp only [wp_bind', Jvm.W.mark, Jvm.W.pushRef, State.topJava?_setTop' _ XF.here.top, Option.some.injEq, exists_eq_left', State.setTop_setTop, State.heap_setTop]
  intro acts
  simp [jvm, XF.here.top]
  exact hrest
end M3S
/-- an array of n arrays of k arrays of w ints at h: the outer one, then each middle one with its own behind it -/
def mS3 (S : mSh) (h n k w : Nat) : mSh := fun b => if b = h then (109, n) else if h < b ∧ b ≤ h + n * (1 + k) then (if (b - h - 1) % (1 + k) = 0 then (108, k) else (100, w)) else S b
def mM3 (M : mMm) (h n k : Nat) : mMm := fun b => if b = h then (fun j => .ref (h + 1 + j * (1 + k))) else if h < b ∧ b ≤ h + n * (1 + k) then (if (b - h - 1) % (1 + k) = 0 then (fun j => .ref (b + 1 + j)) else (fun _ => .int 0)) else M b
theorem m_multi3 {p : Program} {l : Launch} {e : Env} {R : Room} {s : State} {m : MethodId} {args : Array Value} {below : List Frame} {meth : Method} {c : Code} {H : Heap} {locs : List Loc} {cells slots : Nat} {Q : State → Prop} {cc : ByteArray} {nL pc : Nat} {ls : Array Slot} {rest : List Value} {D : va_G} {n0 : Nat} {P : mP} {S : mSh} {M : mMm} {n : Nat} {own : String} {ret : Option FieldType} {index : Nat}
    (X : mCx D n0 P p m c cc nL s args own meth ret) (hp : mHp D n0 S M n s H locs) (hcl : Cond.classLink own index "[[[I" ∈ lw_all) (hov : Cond.arrayOver (.array (.array .int)) ∈ lw_tbl) (hov2 : Cond.arrayOver (.array .int) ∈ lw_tbl) (harr : Cond.arrayClass .int ∈ lw_all)
    (hcells : cells + 25 ≤ R.cells) (hslots : slots + 12120 ≤ R.slots) (hdg : decode cc pc = .ok (.multianewarray index 3, 4))
    (kk : ∀ H1 : Heap, mHp D n0 (mS3 S n 3 7 576) (mM3 M n 3 7) (n + 25) s H1 locs → W p l e R s m args below meth c H1 locs (cells + 25) (slots + 12120) Q (F0 m (pc + 4) ls (.ref n :: rest))) : W p l e R s m args below meth c H locs cells slots Q (F0 m pc ls (.int (576 : Int32) :: .int (7 : Int32) :: .int (3 : Int32) :: rest)) := by
  obtain ⟨⟨hx, hb, hml, hown, hts⟩, hO, -, -⟩ := X
  intro T hT Z
  subst hT
  have hsz : T.heap.size = n := hp.1.1
  have en : (3 : Int32).toNatClampNeg = 3 := by decide
  have ek : (7 : Int32).toNatClampNeg = 7 := by decide
  have eq : (576 : Int32).toNatClampNeg = 576 := by decide
  obtain ⟨vm₁, cA, comp, comp2, L, hW, hfA, hfB, hfC, Z1, hL, step⟩ := multianewarray3 Z hx (own := own) (index := index) hown (hts _ hcl) (hO.2.1 _ hov rfl) (hO.2.1 _ hov2 rfl) (hts _ harr) (g := F0 m pc ls (.int (576 : Int32) :: .int (7 : Int32) :: .int (3 : Int32) :: rest)) rfl (by rw [hb]; exact hdg) rfl (by decide) (by decide) (by decide) (by decide) (by decide) (by decide) (by rw [en, ek]; omega) (by rw [en, ek, eq]; omega)
  rw [en, ek, eq] at Z1 step
  have Z2 := Z1.dropFresh (fun x hx => Nat.le_trans Z.heapGrown (hL x hx))
  obtain ⟨f1, f2, -, -, f5, f6⟩ := fill3_facts (T.setVm vm₁) cA comp comp2 3 7 576 (defaultValue .int) 3
  generalize hF : fill3 (T.setVm vm₁) cA comp comp2 3 7 576 (defaultValue .int) 3 = T2 at f1 f2 f5 f6 Z2 step
  have hcA : cA = D.1 109 := by
    have h := (hO.1.2 9 _ rfl).2
    exact Option.some.inj (hfA.symm.trans h)
  have hcB : comp = D.1 108 := by
    have h := (hO.1.2 8 _ rfl).2
    exact Option.some.inj (hfB.symm.trans h)
  have hcI : comp2 = D.1 100 := by
    have h := (hO.1.2 0 _ rfl).2
    exact Option.some.inj (hfC.symm.trans h)
  have e0 : (T.setVm vm₁).heap.size = n := hsz
  rw [e0] at f1 f2 f6
  rw [hsz] at step
  have f5 : ∀ a, a < n → T2.heap[a]? = T.heap[a]? := fun a ha => f5 a (by rw [e0]; exact ha)
  have hm : mHp D n0 (mS3 S n 3 7 576) (mM3 M n 3 7) (n + 25) s T2.heap locs := by
    refine ⟨⟨f1, by have := hp.1.2.1; omega, fun b hb2 => ?_⟩, m_grow hp.2 hsz (by omega) f5⟩
    by_cases e : b = n
    · have e2 : mS3 S n 3 7 576 b = (109, 3) := by simp [mS3, e]
      refine ⟨Or.inl (by rw [e]; exact hp.1.2.1), Or.inr ?_⟩
      rw [e2]
      refine ⟨by show 100 ≤ 109; omega, ?_⟩
      rw [e, f2, hcA, o3C_arr _ _ _ _ _ (Nat.le_refl _)]
      congr 1
      unfold arrV
      congr 1
      apply Array.ext'
      simp [mM3]
    · by_cases e4 : n < b ∧ b ≤ n + 3 * (1 + 7)
      · obtain ⟨j, r, hj, hr, hbe⟩ : ∃ j r, j < 3 ∧ r < 8 ∧ b = n + 1 + j * 8 + r := ⟨(b - n - 1) / 8, (b - n - 1) % 8, by omega, by omega, by omega⟩
        obtain ⟨q1, q2⟩ := f6 j hj
        have hmod : (b - n - 1) % (1 + 7) = r := by omega
        refine ⟨Or.inl (by have := hp.1.2.1; omega), Or.inr ?_⟩
        by_cases hr0 : r = 0
        · have e2 : mS3 S n 3 7 576 b = (108, 7) := by simp only [mS3, e, e4, hmod, hr0, if_false, if_true, and_self]
          have e3 : mM3 M n 3 7 b = fun j => .ref (b + 1 + j) := by simp only [mM3, e, e4, hmod, hr0, if_false, if_true, and_self]
          rw [e2, e3]
          refine ⟨by show 100 ≤ 108; omega, ?_⟩
          have hb9 : n + 1 + j * (1 + 7) = b := by omega
          rw [hb9] at q1
          rw [q1, hcB, outerC_arr _ _ _ _ (Nat.le_refl _)]
          congr 1
        · have e2 : mS3 S n 3 7 576 b = (100, 576) := by simp only [mS3, e, e4, hmod, hr0, if_false, if_true, and_self]
          have e3 : mM3 M n 3 7 b = fun _ => .int 0 := by simp only [mM3, e, e4, hmod, hr0, if_false, if_true, and_self]
          rw [e2, e3]
          refine ⟨by show 100 ≤ 100; omega, ?_⟩
          have h5 := q2 (r - 1) (by omega)
          rw [show n + 1 + j * (1 + 7) + 1 + (r - 1) = b by omega] at h5
          rw [h5, hcI]
          show some ({ cls := _, slots := Array.replicate _ (Value.int 0), vm := .none } : Cell) = _
          rw [arrV_new]
      · have e2 : mS3 S n 3 7 576 b = S b := by simp only [mS3, e, e4, if_false]
        rw [e2] at hb2
        have hlt : b < n := by rw [← hp.1.1]; exact (hp.1.2.2 b hb2).2.lt
        exact ⟨by rw [e2]; exact (hp.1.2.2 b hb2).1, (hp.1.2.2 b hb2).2.kept (f5 b hlt) (by simp only [mM3, e, e4, if_false]) e2⟩
  obtain ⟨t, a1, b1⟩ := kk T2.heap hm T2 rfl Z2
  exact ⟨t, step t a1, b1⟩
