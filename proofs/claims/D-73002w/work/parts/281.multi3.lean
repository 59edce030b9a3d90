/-! an array of three dimensions of ints: after the library's law for two (turned to three) -/
set_option maxRecDepth 100000
def o3C (c : ClassId) (N h0 w : Nat) : Nat → Cell
  | 0 => { cls := c, slots := Array.replicate N .null, vm := .none }
  | i + 1 => (o3C c N h0 w i).setSlot i (.ref (h0 + 1 + i * w))
def fill3 (s : State) (c comp comp2 : ClassId) (N M K : Nat) (dv : Value) : Nat → State
  | 0 => s.pushCell (o3C c N s.heap.size (1 + M) 0)
  | i + 1 => (Jvm.Free.Multi.fill (fill3 s c comp comp2 N M K dv i) comp comp2 M K dv M).setCell s.heap.size (o3C c N s.heap.size (1 + M) (i + 1))
theorem o3C_facts (c : ClassId) (N h0 w : Nat) : ∀ i, (o3C c N h0 w i).cls = c ∧ (o3C c N h0 w i).vm = .none ∧ (o3C c N h0 w i).slots.size = N
  | 0 => ⟨rfl, rfl, by simp [o3C]⟩
  | i + 1 => by
    obtain ⟨a, b, d⟩ := o3C_facts c N h0 w i
    exact ⟨by simp [o3C, Cell.setSlot, a], by simp [o3C, Cell.setSlot, b], by simp [o3C, Cell.setSlot, d]⟩
theorem o3C_arr (c : ClassId) (N h0 w : Nat) : ∀ i, i ≤ N → o3C c N h0 w i = arrV c N (fun j => if j < i then .ref (h0 + 1 + j * w) else .null) := by
  intro i
  induction i with
  | zero =>
    intro _
    show ({ cls := c, slots := Array.replicate N .null, vm := .none } : Cell) = _
    rw [arrV_new]
    congr 1
  | succ i ih =>
    intro hi
    show (o3C c N h0 w i).setSlot i (.ref (h0 + 1 + i * w)) = _
    rw [ih (by omega), arrV_store]
    congr 1
    funext j
    by_cases h : j = i
    · subst h
      simp [updV]
    · simp only [updV, h, if_false]
      by_cases h2 : j < i
      · rw [if_pos h2, if_pos (by omega)]
      · rw [if_neg h2, if_neg (by omega)]
/-- what the heap holds after i rounds -/
theorem fill3_facts (s : State) (c comp comp2 : ClassId) (N M K : Nat) (dv : Value) : ∀ i, (fill3 s c comp comp2 N M K dv i).heap.size = s.heap.size + 1 + i * (1 + M) ∧ (fill3 s c comp comp2 N M K dv i).heap[s.heap.size]? = some (o3C c N s.heap.size (1 + M) i) ∧
      (fill3 s c comp comp2 N M K dv i).vm = s.vm ∧ (fill3 s c comp comp2 N M K dv i).slotsUsed = s.slotsUsed + N + i * (M + M * K) ∧
      (∀ a, a < s.heap.size → (fill3 s c comp comp2 N M K dv i).heap[a]? = s.heap[a]?) ∧
      (∀ j, j < i → (fill3 s c comp comp2 N M K dv i).heap[s.heap.size + 1 + j * (1 + M)]? = some (Jvm.Free.Multi.outerC comp M (s.heap.size + 1 + j * (1 + M)) M) ∧
        ∀ k, k < M → (fill3 s c comp comp2 N M K dv i).heap[s.heap.size + 1 + j * (1 + M) + 1 + k]? = some (Jvm.Free.Multi.innerC comp2 K dv)) := by
  intro i
  induction i with
  | zero =>
    refine ⟨by simp [fill3, State.pushCell], State.heap_pushCell_size _ _, rfl, by simp [fill3, State.pushCell, o3C], fun a ha => State.heap_pushCell_of_lt _ _ ha, fun j hj => absurd hj (by omega)⟩
  | succ i ih =>
    obtain ⟨g1, g2, g3, g4, g5, g6⟩ := ih
    obtain ⟨f1, f2, f3, f4⟩ := Jvm.Free.Multi.fill_facts (fill3 s c comp comp2 N M K dv i) comp comp2 M K dv M
    have fo := fun (a : Addr) (ha : a < (fill3 s c comp comp2 N M K dv i).heap.size) => Jvm.Free.Multi.fill_old (fill3 s c comp comp2 N M K dv i) comp comp2 M K dv (a := a) ha M
    have fi := fun (j : Nat) (hj : j < M) => Jvm.Free.Multi.fill_inner (fill3 s c comp comp2 N M K dv i) comp comp2 M K dv M j hj
    have hlt0 : s.heap.size < (Jvm.Free.Multi.fill (fill3 s c comp comp2 N M K dv i) comp comp2 M K dv M).heap.size := by rw [f1, g1]; omega
    have hne : ∀ a, a ≠ s.heap.size → (fill3 s c comp comp2 N M K dv (i + 1)).heap[a]? = (Jvm.Free.Multi.fill (fill3 s c comp comp2 N M K dv i) comp comp2 M K dv M).heap[a]? := fun a ha => heapAt_setCell_ne _ (Ne.symm ha)
    have hm : (i + 1) * (1 + M) = i * (1 + M) + (1 + M) := by rw [Nat.succ_mul]
    have hm2 : (i + 1) * (M + M * K) = i * (M + M * K) + (M + M * K) := by rw [Nat.succ_mul]
    refine ⟨?_, heapAt_setCell_self _ hlt0, ?_, ?_, fun a ha => ?_, fun j hj => ?_⟩
    · show ((Jvm.Free.Multi.fill _ comp comp2 M K dv M).setCell s.heap.size _).heap.size = _
      rw [size_setCell, f1, g1, hm]; omega
    · show (Jvm.Free.Multi.fill (fill3 s c comp comp2 N M K dv i) comp comp2 M K dv M).vm = _
      rw [f3, g3]
    · show ((Jvm.Free.Multi.fill (fill3 s c comp comp2 N M K dv i) comp comp2 M K dv M).setCell s.heap.size _).slotsUsed = _
      have e : ((Jvm.Free.Multi.fill (fill3 s c comp comp2 N M K dv i) comp comp2 M K dv M).setCell s.heap.size (o3C c N s.heap.size (1 + M) (i + 1))).slotsUsed = (Jvm.Free.Multi.fill (fill3 s c comp comp2 N M K dv i) comp comp2 M K dv M).slotsUsed := rfl
      rw [e, f4, g4, hm2]; omega
    · rw [hne a (Nat.ne_of_lt ha), fo a (Nat.lt_of_lt_of_le ha (g1 ▸ (by omega : s.heap.size ≤ s.heap.size + 1 + i * (1 + M))))]
      exact g5 a ha
    · by_cases hji : j < i
      · have hjm : j * (1 + M) + (1 + M) ≤ i * (1 + M) := by
          have := Nat.mul_le_mul_right (1 + M) (show j + 1 ≤ i from hji)
          rw [Nat.succ_mul] at this; exact this
        obtain ⟨q1, q2⟩ := g6 j hji
        have hb : ∀ a, a < s.heap.size + 1 + i * (1 + M) → a < (fill3 s c comp comp2 N M K dv i).heap.size := fun a ha => g1 ▸ ha
        exact ⟨by rw [hne _ (by omega), fo _ (hb _ (by omega))]; exact q1, fun k hk => by rw [hne _ (by omega), fo _ (hb _ (by omega))]; exact q2 k hk⟩
      · have e : j = i := by omega
        subst e
        rw [g1] at f2 fi
        exact ⟨by rw [hne _ (by omega)]; exact f2, fun k hk => by rw [hne _ (by omega)]; exact fi k hk⟩
theorem fill_setTop3 (s : State) (f : JFrame) (c comp comp2 : ClassId) (N M K : Nat) (dv : Value) : ∀ i, fill3 (s.setTop f) c comp comp2 N M K dv i = (fill3 s c comp comp2 N M K dv i).setTop f
  | 0 => rfl
  | i + 1 => by
    show (Jvm.Free.Multi.fill (fill3 (s.setTop f) c comp comp2 N M K dv i) comp comp2 M K dv M).setCell _ _ = _
    rw [fill_setTop3 s f c comp comp2 N M K dv i, Jvm.Free.Multi.fill_setTop]
    rfl
section M3
variable {E : CtlPost} {e : Env} {d : Bool} {acts : List Action} {s : State}
theorem wp_make3 {c comp comp2 cc : ClassId} {k k2 kc : Class} {t0 t1 type : FieldType} {n m q : Int32} (hk : s.vm.classes[c]? = some k) (hkind : k.kind = .array comp t0) (href : t0.isReference = true)
    (hk2 : s.vm.classes[comp]? = some k2) (hkind2 : k2.kind = .array comp2 t1) (href2 : t1.isReference = true)
    (hkc : s.vm.classes[comp2]? = some kc) (hkindc : kc.kind = .array cc type) (hn : ¬ n < 0) (hm : ¬ m < 0) (hq0 : ¬ q < 0)
    (hl1 : ¬ n.toNatClampNeg > e.platform.arrayLengthLimit) (hh1 : ¬ n.toNatClampNeg * componentBytes t0 > e.platform.maxHeapBytes)
    (hl2 : ¬ m.toNatClampNeg > e.platform.arrayLengthLimit) (hh2 : ¬ m.toNatClampNeg * componentBytes t1 > e.platform.maxHeapBytes)
    (hl3 : ¬ q.toNatClampNeg > e.platform.arrayLengthLimit) (hh3 : ¬ q.toNatClampNeg * componentBytes type > e.platform.maxHeapBytes)
    (hdf : fits type (defaultValue type) = true) (hdd : (defaultValue type).isDefault = true)
    (hc : s.heap.size + 1 + n.toNatClampNeg * (1 + m.toNatClampNeg) ≤ e.platform.maxCells) (hs : s.slotsUsed + n.toNatClampNeg + n.toNatClampNeg * (m.toNatClampNeg + m.toNatClampNeg * q.toNatClampNeg) ≤ e.platform.maxSlots)
    {Q : Addr → Pre} (hq : ∀ d' acts', Q s.heap.size d' acts' (fill3 s c comp comp2 n.toNatClampNeg m.toNatClampNeg q.toNatClampNeg (defaultValue type) n.toNatClampNeg)) :
    wp (multianewarray.make c [n, m, q]) Q E e d acts s := by
  have hfind : ([m, q].find? (· < 0)) = none := by simp [hm, hq0]
  rw [multianewarray.make]
  simp only [wp_bind', Jvm.W.ite, hn, if_false, wp_pure', Jvm.W.theClass, hk, hkind, Option.some.injEq, exists_eq_left']
  refine Jvm.Free.Multi.wp_newArray hk hkind hl1 hh1 (Jvm.Free.Multi.refFits href _ (Or.inl rfl)) rfl (by omega) (by have := Nat.zero_le (n.toNatClampNeg * (m.toNatClampNeg + m.toNatClampNeg * q.toNatClampNeg)); omega) ?_
  simp only [hfind]
  rw [ite_self, wp_bind', Std.Legacy.Range.forIn_eq_forIn_range']
  have hsz : ([:n.toNatClampNeg] : Std.Legacy.Range).size = n.toNatClampNeg := by simp [Std.Legacy.Range.size]
  rw [hsz]
  show wp (forIn (List.range' 0 n.toNatClampNeg 1) PUnit.unit _) _ E e d acts _
  refine wp_forIn_inv (fun rest s' => ∃ i, i ≤ n.toNatClampNeg ∧ rest = List.range' i (n.toNatClampNeg - i) ∧ s' = fill3 s c comp comp2 n.toNatClampNeg m.toNatClampNeg q.toNatClampNeg (defaultValue type) i) _ _ ⟨0, Nat.zero_le _, rfl, rfl⟩ ?_ ?_
  · rintro x rest s' d' acts' Q' ⟨i, hi, hl, rfl⟩ hnext
    have hlt : i < n.toNatClampNeg := by
      rcases Nat.lt_or_ge i n.toNatClampNeg with h | h
      · exact h
      · rw [show n.toNatClampNeg - i = 0 from by omega] at hl; simp at hl
    obtain ⟨rfl, hrest⟩ : x = i ∧ rest = List.range' (i + 1) (n.toNatClampNeg - (i + 1)) := by
      rw [show n.toNatClampNeg - i = (n.toNatClampNeg - (i + 1)) + 1 from by omega, List.range'_succ] at hl
      exact ⟨(List.cons.inj hl).1, (List.cons.inj hl).2⟩
    obtain ⟨f1, f2, f3, f4, -, -⟩ := fill3_facts s c comp comp2 n.toNatClampNeg m.toNatClampNeg q.toNatClampNeg (defaultValue type) x
    obtain ⟨o1, o2, o3⟩ := o3C_facts c n.toNatClampNeg s.heap.size (1 + m.toNatClampNeg) x
    have hmul : x * (1 + m.toNatClampNeg) + (1 + m.toNatClampNeg) ≤ n.toNatClampNeg * (1 + m.toNatClampNeg) := by
      have := Nat.mul_le_mul_right (1 + m.toNatClampNeg) (show x + 1 ≤ n.toNatClampNeg from hlt)
      rw [Nat.succ_mul] at this; exact this
    have hmul2 : x * (m.toNatClampNeg + m.toNatClampNeg * q.toNatClampNeg) + (m.toNatClampNeg + m.toNatClampNeg * q.toNatClampNeg) ≤ n.toNatClampNeg * (m.toNatClampNeg + m.toNatClampNeg * q.toNatClampNeg) := by
      have := Nat.mul_le_mul_right (m.toNatClampNeg + m.toNatClampNeg * q.toNatClampNeg) (show x + 1 ≤ n.toNatClampNeg from hlt)
      rw [Nat.succ_mul] at this; exact this
    simp only [wp_bind']
    refine Jvm.Free.Multi.wp_make2 (by rw [f3]; exact hk2) hkind2 href2 (by rw [f3]; exact hkc) hkindc hm hq0 hl2 hh2 hl3 hh3 hdf hdd (by rw [f1]; omega) (by rw [f4]; omega) (fun d2 acts2 => ?_)
    obtain ⟨g1, g2, g3, g4⟩ := Jvm.Free.Multi.fill_facts (fill3 s c comp comp2 n.toNatClampNeg m.toNatClampNeg q.toNatClampNeg (defaultValue type) x) comp comp2 m.toNatClampNeg q.toNatClampNeg (defaultValue type) m.toNatClampNeg
    have hlt0 : s.heap.size < (fill3 s c comp comp2 n.toNatClampNeg m.toNatClampNeg q.toNatClampNeg (defaultValue type) x).heap.size := by rw [f1]; omega
    simp only [wp_bind', Jvm.W.writeLoc, wp_pure']
    refine ⟨o3C c n.toNatClampNeg s.heap.size (1 + m.toNatClampNeg) x, by rw [Jvm.Free.Multi.fill_old _ _ _ _ _ _ hlt0]; exact f2, by rw [o2]; simp, by rw [o3]; exact hlt, ?_, hnext _ _ _ ⟨x + 1, hlt, hrest, ?_⟩⟩
    · rw [o1, o2]
      simp [State.fitsSlot, State.slotType?, g3, f3, hk, hkind, Jvm.Free.Multi.refFits href _ (Or.inr ⟨_, rfl⟩)]
    · rw [f1]; rfl
  · rintro s' d' acts' ⟨i, hi, hl, rfl⟩
    have hiN : i = n.toNatClampNeg := by
      rcases Nat.lt_or_ge i n.toNatClampNeg with h | h
      · rw [show n.toNatClampNeg - i = (n.toNatClampNeg - (i + 1)) + 1 from by omega, List.range'_succ] at hl; cases hl
      · omega
    subst hiN
    simp only [wp_pure']
    exact hq _ _
end M3
