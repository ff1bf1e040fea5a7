/-! an int table of rows: multianewarray of two dimensions -/
def mg_row (cI M : Nat) : Cell := { cls := cI, slots := Array.replicate M (.int 0), vm := .none }
def mg_head (cT N h i : Nat) : Cell := { cls := cT, slots := ((List.range N).map fun j => if j < i then Value.ref (h + 1 + j) else Value.null).toArray, vm := .none }
def mg_st (T : State) (cT cI N M i : Nat) : State := { T with heap := T.heap.push (mg_head cT N T.heap.size i) ++ Array.replicate i (mg_row cI M), slotsUsed := T.slotsUsed + N + i * M }
theorem mg_size (T : State) (cT cI N M i : Nat) : (mg_st T cT cI N M i).heap.size = T.heap.size + 1 + i := by
  simp [mg_st]
theorem mg_at (T : State) (cT cI N M i : Nat) : (mg_st T cT cI N M i).heap[T.heap.size]? = some (mg_head cT N T.heap.size i) := by
  unfold mg_st
  rw [Array.getElem?_append_left (by simp)]
  simp
theorem mg_old (T : State) (cT cI N M i : Nat) {q : Nat} (hq : q < T.heap.size) : (mg_st T cT cI N M i).heap[q]? = T.heap[q]? := by
  unfold mg_st
  rw [Array.getElem?_append_left (by simp; omega)]
  simp [Array.getElem?_push, Nat.ne_of_lt hq]
theorem mg_rows (T : State) (cT cI N M i : Nat) {j : Nat} (hj : j < i) : (mg_st T cT cI N M i).heap[T.heap.size + 1 + j]? = some (mg_row cI M) := by
  unfold mg_st
  rw [Array.getElem?_append_right (by simp)]
  simp [hj]
theorem mg_hsize (cT N h i : Nat) : (mg_head cT N h i).slots.size = N := by simp [mg_head]
theorem mg_hset (cT N h i : Nat) (hi : i < N) : (mg_head cT N h i).setSlot i (.ref (h + 1 + i)) = mg_head cT N h (i + 1) := by
  unfold mg_head Cell.setSlot
  congr 1
  apply Array.ext_getElem?
  intro j
  rw [Array.getElem?_setIfInBounds]
  by_cases hj : j < N
  · by_cases e : i = j
    · subst e
      simp [hj]
    · have e2 : (j < i + 1) ↔ (j < i) := by omega
      simp [hj, e, e2]
  · have e : i ≠ j := by omega
    simp [hj, e]
theorem mg_next (T : State) (cT cI N M i : Nat) (hi : i < N) : ((mg_st T cT cI N M i).pushCell (mg_row cI M)).setCell T.heap.size ((mg_head cT N T.heap.size i).setSlot i (.ref (T.heap.size + 1 + i))) = mg_st T cT cI N M (i + 1) := by
  rw [mg_hset cT N T.heap.size i hi]
  have e1 : (((mg_st T cT cI N M i).pushCell (mg_row cI M)).setCell T.heap.size (mg_head cT N T.heap.size (i + 1))).heap = (mg_st T cT cI N M (i + 1)).heap := by
    apply Array.ext_getElem?
    intro q
    simp only [State.setCell, State.pushCell]
    rw [Array.getElem?_setIfInBounds]
    have hs := mg_size T cT cI N M i
    by_cases hq : T.heap.size = q
    · subst hq
      rw [mg_at]
      simp [hs]
      omega
    · rw [if_neg hq, Array.getElem?_push]
      rcases Nat.lt_or_ge q T.heap.size with h1 | h1
      · rw [if_neg (by rw [hs]; omega), mg_old _ _ _ _ _ _ h1, mg_old _ _ _ _ _ _ h1]
      · obtain ⟨j, rfl⟩ : ∃ j, q = T.heap.size + 1 + j := ⟨q - (T.heap.size + 1), by omega⟩
        rcases Nat.lt_trichotomy j i with h2 | h2 | h2
        · rw [if_neg (by rw [hs]; omega), mg_rows _ _ _ _ _ _ h2, mg_rows _ _ _ _ _ _ (by omega)]
        · subst h2
          rw [if_pos (by rw [hs]), mg_rows _ _ _ _ _ _ (by omega)]
        · rw [if_neg (by rw [hs]; omega), Array.getElem?_eq_none (by rw [mg_size]; omega), Array.getElem?_eq_none (by rw [mg_size]; omega)]
  have e2 : (((mg_st T cT cI N M i).pushCell (mg_row cI M)).setCell T.heap.size (mg_head cT N T.heap.size (i + 1))).slotsUsed = (mg_st T cT cI N M (i + 1)).slotsUsed := by
    simp [State.setCell, State.pushCell, mg_st, mg_row, Nat.succ_mul]
    omega
  have key : ∀ u v : State, u.heap = v.heap → u.slotsUsed = v.slotsUsed → u.vm = v.vm → u.threads = v.threads → u.cur = v.cur → u.world = v.world → u.drawn = v.drawn → u.now = v.now → u.status = v.status → u = v := by
    intro u v h1 h2 h3 h4 h5 h6 h7 h8 h9
    cases u
    cases v
    simp only at h1 h2 h3 h4 h5 h6 h7 h8 h9
    subst h1 h2 h3 h4 h5 h6 h7 h8 h9
    rfl
  exact key _ _ e1 e2 rfl rfl rfl rfl rfl rfl rfl
theorem mg_zero (T : State) (cT cI N M : Nat) : T.pushCell { cls := cT, slots := Array.replicate N .null, vm := .none } = mg_st T cT cI N M 0 := by
  have e : ({ cls := cT, slots := Array.replicate N .null, vm := .none } : Cell) = mg_head cT N T.heap.size 0 := by
    unfold mg_head
    congr 1
    apply Array.ext_getElem?
    intro j
    by_cases hj : j < N <;> simp [hj]
  rw [e]
  simp [State.pushCell, mg_st, mg_hsize]
section MG
variable {p : Program} {l : Launch} {e : Env} {R : Room} {s : State} {m : MethodId} {args : Array Value} {below : List Frame} {meth : Method} {c : Code} {T : State} {locs : List Loc} {cells slots : Nat}
theorem mg_stand (X : Stand p l e R s m args below meth c T locs cells slots) (cT cI N M : Nat) : ∀ i, i ≤ N → Stand p l e R s m args below meth c (mg_st T cT cI N M i) (locs ++ (List.range i).map fun j => ⟨T.heap.size, j⟩) (cells + 1 + i) (slots + N + i * M) := by
  intro i
  induction i with
  | zero =>
    intro _
    have h := X.pushed { cls := cT, slots := Array.replicate N .null, vm := .none }
    rw [mg_zero T cT cI N M] at h
    simpa using h
  | succ i ih =>
    intro hi
    have h := ((ih (by omega)).pushed (mg_row cI M)).stored (a := T.heap.size) (cell := mg_head cT N T.heap.size i) (by
      simp only [State.pushCell]
      rw [Array.getElem?_push, if_neg (by rw [mg_size]; omega)]
      exact mg_at T cT cI N M i) i (.ref (T.heap.size + 1 + i))
    rw [mg_next T cT cI N M i (by omega)] at h
    have e1 : (mg_row cI M).slots.size = M := by simp [mg_row]
    rw [e1] at h
    have e2 : (locs ++ (List.range (i + 1)).map fun j => (⟨T.heap.size, j⟩ : Loc)) = (locs ++ (List.range i).map fun j => (⟨T.heap.size, j⟩ : Loc)) ++ [⟨T.heap.size, i⟩] := by simp [List.range_succ, List.append_assoc]
    have e3 : slots + N + (i + 1) * M = slots + N + i * M + M := by rw [Nat.succ_mul]; omega
    have e4 : cells + 1 + (i + 1) = cells + 1 + i + 1 := by omega
    rw [e2, e3, e4]
    exact h
end MG
section MGW
variable {E : CtlPost} {e : Env} {d : Bool} {acts : List Action} {s : State}
/-- a new array of a class, its places at their default -/
theorem mg_newA {c comp : ClassId} {k : Class} {type : FieldType} {len : Nat} {init : Value} (hk : s.vm.classes[c]? = some k) (hkind : k.kind = .array comp type) (hl : len ≤ e.platform.arrayLengthLimit) (hh : len * componentBytes type ≤ e.platform.maxHeapBytes)
    (hfit : fits type init = true) (hdef : init.isDefault = true) {Q : Addr → Pre} (h1 : s.heap.size < e.platform.maxCells) (h2 : s.slotsUsed + len ≤ e.platform.maxSlots) (hq : Q s.heap.size d acts (s.pushCell { cls := c, slots := Array.replicate len init, vm := .none })) : wp (Jvm.newArray c len init) Q E e d acts s := by
  have hda : allocActs (Array.replicate len init) s.heap.size acts = acts := by
    unfold allocActs
    rw [if_pos]
    rw [Array.all_replicate]
    split <;> simp [hdef]
  have hl' : ¬ len > e.platform.arrayLengthLimit := by omega
  have hh' : ¬ len * componentBytes type > e.platform.maxHeapBytes := by omega
  simp only [Jvm.newArray, Jvm.arrayFits, wp_bind', W.ask, W.ite, hl', if_false, wp_pure', W.theClass, hk, hkind, hh', W.alloc, W.stop, Option.some.injEq, exists_eq_left', Array.size_replicate, hda]
  rw [if_neg (by omega)]
  refine ⟨h1, h2, fun i v hv => ?_, hq⟩
  rw [Array.getElem?_replicate] at hv
  split at hv
  · cases hv
    simp [State.fitsSlot, State.slotType?, hk, hkind, hfit]
  · cases hv
theorem mg_make {cT cI cc : ClassId} {kT kI : Class} {n m : Int32} {N M : Nat} (hkT : s.vm.classes[cT]? = some kT) (hT : kT.kind = .array cI (.array .int)) (hkI : s.vm.classes[cI]? = some kI) (hI : kI.kind = .array cc .int) (hn : ¬ n < 0) (hm : ¬ m < 0) (hN : n.toNatClampNeg = N) (hM : m.toNatClampNeg = M)
    (hlN : N ≤ e.platform.arrayLengthLimit) (hhN : N * componentBytes (.array .int) ≤ e.platform.maxHeapBytes) (hlM : M ≤ e.platform.arrayLengthLimit) (hhM : M * componentBytes .int ≤ e.platform.maxHeapBytes)
    (hc : s.heap.size + 1 + N ≤ e.platform.maxCells) (hs : s.slotsUsed + N + N * M ≤ e.platform.maxSlots) {Q : Addr → Pre} (hq : ∀ d' acts', Q s.heap.size d' acts' (mg_st s cT cI N M N)) : wp (multianewarray.make cT [n, m]) Q E e d acts s := by
  subst hN; subst hM
  have hinner : ∀ (u : State) (d' : Bool) (acts' : List Action) (Q' : Addr → Pre), u.vm = s.vm → u.heap.size < e.platform.maxCells → u.slotsUsed + m.toNatClampNeg ≤ e.platform.maxSlots → Q' u.heap.size d' acts' (u.pushCell (mg_row cI m.toNatClampNeg)) → wp (multianewarray.make cI [m]) Q' E e d' acts' u := by
    intro u d' acts' Q' hu g1 g2 g3
    rw [multianewarray.make]
    simp only [wp_bind', W.ite, hm, if_false, wp_pure', W.theClass, hu, hkI, hI, Option.some.injEq, exists_eq_left']
    exact mg_newA (by rw [hu]; exact hkI) hI hlM hhM rfl rfl g1 g2 g3
  rw [multianewarray.make]
  simp only [wp_bind', W.ite, hn, if_false, wp_pure', W.theClass, hkT, hT, Option.some.injEq, exists_eq_left']
  refine mg_newA hkT hT hlN hhN rfl rfl (by omega) (by omega) ?_
  rw [mg_zero s cT cI n.toNatClampNeg m.toNatClampNeg]
  have hfind : ([m].find? (· < 0)) = none := by simp [hm]
  simp only [hfind]
  rw [ite_self, wp_bind', Std.Legacy.Range.forIn_eq_forIn_range']
  have hsz : ([:n.toNatClampNeg] : Std.Legacy.Range).size = n.toNatClampNeg := by simp [Std.Legacy.Range.size]
  rw [hsz]
  show wp (forIn (List.range' 0 n.toNatClampNeg 1) PUnit.unit _) _ E e d acts _
  refine wp_forIn_inv (fun rest u => ∃ i, i ≤ n.toNatClampNeg ∧ rest = List.range' i (n.toNatClampNeg - i) ∧ u = mg_st s cT cI n.toNatClampNeg m.toNatClampNeg i) _ _ ⟨0, Nat.zero_le _, rfl, rfl⟩ ?_ ?_
  · rintro x rest u d' acts' Q' ⟨i, hi, hl, rfl⟩ hnext
    cases hd : n.toNatClampNeg - i with
    | zero => rw [hd] at hl; simp at hl
    | succ w =>
      rw [hd, List.range'_succ] at hl
      obtain ⟨rfl, hrest⟩ := List.cons.inj hl
      have hmul : x * m.toNatClampNeg + m.toNatClampNeg ≤ n.toNatClampNeg * m.toNatClampNeg := by
        have := Nat.mul_le_mul_right m.toNatClampNeg (show x + 1 ≤ n.toNatClampNeg by omega)
        rw [Nat.succ_mul] at this
        exact this
      simp only [wp_bind']
      refine hinner _ _ _ _ rfl (by rw [mg_size]; omega) (by show s.slotsUsed + n.toNatClampNeg + x * m.toNatClampNeg + m.toNatClampNeg ≤ _; omega) ?_
      simp only [wp_bind', W.writeLoc, wp_pure']
      refine ⟨mg_head cT n.toNatClampNeg s.heap.size x, ?_, by simp [mg_head], by rw [mg_hsize]; omega, ?_, hnext _ _ _ ⟨x + 1, by omega, ?_, ?_⟩⟩
      · simp only [State.pushCell]
        rw [Array.getElem?_push, if_neg (by rw [mg_size]; omega)]
        exact mg_at s cT cI n.toNatClampNeg m.toNatClampNeg x
      · show State.fitsSlot _ cT .none x _ = true
        simp [State.fitsSlot, State.slotType?, mg_st, hkT, hT, fits]
      · rw [hrest, show n.toNatClampNeg - (x + 1) = w by omega]
      · rw [mg_size]
        exact mg_next s cT cI n.toNatClampNeg m.toNatClampNeg x (by omega)
  · rintro u d' acts' ⟨i, hi, hl, rfl⟩
    have hiN : i = n.toNatClampNeg := by
      cases hd : n.toNatClampNeg - i with
      | zero => omega
      | succ w => rw [hd, List.range'_succ] at hl; cases hl
    subst hiN
    simp only [wp_pure']
    exact hq _ _
end MGW
theorem mg_setTop (T : State) (f : JFrame) (cT cI N M i : Nat) : mg_st (T.setTop f) cT cI N M i = (mg_st T cT cI N M i).setTop f := by
  unfold mg_st
  simp only [State.heap_setTop]
  rfl
section MGS
variable {p : Program} {l : Launch} {e : Env} {R : Room} {s : State} {m : MethodId} {args : Array Value} {below : List Frame} {meth : Method} {c : Code} {H : Heap} {locs : List Loc} {cells slots : Nat} {Q : State → Prop}
/-- multianewarray of ints, two dimensions -/
theorem mg_W {cc : ByteArray} (hexec : p.tables.exec = Jvm.exec) (hb : c.code = cc) {own : String} {index : Nat} (hown : s.vm.findClass own = some m.cls) (hclink : (Cond.classLink own index "[[I").before args s = true) {cT cI ccI : ClassId} {kT kI : Class} (hfT : s.vm.findClass "[[I" = some cT) (hkT : s.vm.classes[cT]? = some kT) (hT : kT.kind = .array cI (.array .int)) (hkI : s.vm.classes[cI]? = some kI) (hI : kI.kind = .array ccI .int)
    {pc : Nat} {ls : Array Slot} {rest : List Value} {n k : Int32} {N M : Nat} (hdg : decode cc pc = .ok (.multianewarray index 2, 4)) (hn : ¬ n < 0) (hk : ¬ k < 0) (hN : n.toNatClampNeg = N) (hM : k.toNatClampNeg = M) (hb1 : N * 4 ≤ 536870912) (hb2 : M * 4 ≤ 536870912) (hcells : cells + (1 + N) ≤ R.cells) (hslots : slots + (N + N * M) ≤ R.slots)
    (kk : ∀ H' : Heap, H'.size = H.size + 1 + N → (∀ q, q < H.size → H'[q]? = H[q]?) → H'[H.size]? = some (mg_head cT N H.size N) → (∀ j, j < N → H'[H.size + 1 + j]? = some (mg_row cI M)) → W p l e R s m args below meth c H' (locs ++ (List.range N).map fun j => ⟨H.size, j⟩) (cells + 1 + N) (slots + N + N * M) Q (F0 m (pc + 4) ls (.ref H.size :: rest))) :
    W p l e R s m args below meth c H locs cells slots Q (F0 m pc ls (.int k :: .int n :: rest)) := by
  intro T hT' X
  subst hb
  subst hT'
  have hpl : e.platform.magicAccessors = ({} : Platform).magicAccessors := by rw [X.admits.platform]
  obtain ⟨c0, hfc0, hcl⟩ := Cond.classLink_spec hown hclink e.platform hpl
  cases hfT.symm.trans hfc0
  obtain ⟨hg₁, hwarm₁, hready₁⟩ := State.classEntry (e := e) X.warmed hcl
  generalize T.vm.noted m.cls index (.cls cT) = vm₁ at hg₁ hwarm₁ hready₁
  obtain ⟨kT₁, hkT₁, heT⟩ := hwarm₁.alike.2.2 _ _ hkT
  obtain ⟨kI₁, hkI₁, heI⟩ := hwarm₁.alike.2.2 _ _ hkI
  have hT₁ : kT₁.kind = .array cI (.array .int) := by rw [heT]; exact hT
  have hI₁ : kI₁.kind = .array ccI .int := by rw [heI]; exact hI
  have X₁ := X.noted hwarm₁
  have XF := mg_stand X₁ cT cI N M N (Nat.le_refl N)
  obtain ⟨hr1, hr2⟩ := X.roomAbove hcells hslots
  obtain ⟨t, a1, b1⟩ := kk (mg_st (T.setVm vm₁) cT cI N M N).heap (mg_size _ _ _ _ _ _) (fun q hq => mg_old (T.setVm vm₁) _ _ _ _ _ hq) (mg_at (T.setVm vm₁) _ _ _ _ _) (fun j hj => mg_rows (T.setVm vm₁) _ _ _ _ _ hj) _ rfl XF
  refine ⟨t, ?_, b1⟩
  have hl1 : N ≤ e.platform.arrayLengthLimit := by rw [Launch.admits_arrayLengthLimit X.admits]; omega
  have hh1 : N * componentBytes (.array .int) ≤ e.platform.maxHeapBytes := by rw [Launch.admits_maxHeapBytes X.admits]; exact hb1
  have hl2 : M ≤ e.platform.arrayLengthLimit := by rw [Launch.admits_arrayLengthLimit X.admits]; omega
  have hh2 : M * componentBytes .int ≤ e.platform.maxHeapBytes := by rw [Launch.admits_maxHeapBytes X.admits]; exact hb2
  jvm_step X.here [hexec, hdg]
  simp only [multianewarray.sem, wp_bind', W.resolveClassAt_links (State.method?_setTop (F0 m pc ls (.int k :: .int n :: rest)) X.here.top) hg₁]
  rw [W.popN, if_neg (by decide)]
  refine ⟨F0 m pc ls (.int k :: .int n :: rest), State.topJava?_setTop' (s := T.setVm vm₁) _ X.here.top, [.int n, .int k], rest, rfl, rfl, ?_⟩
  simp only [List.mapM_cons, List.mapM_nil, wp_bind', wp_pure']
  refine mg_make (kT := kT₁) (kI := kI₁) (cI := cI) (cc := ccI) hkT₁ hT₁ hkI₁ hI₁ hn hk hN hM hl1 hh1 hl2 hh2 (by show T.heap.size + 1 + _ ≤ _; omega) (by show T.slotsUsed + _ + _ ≤ _; omega) (fun d' acts' => ?_)
  have eS : ((T.setTop (F0 m pc ls (.int k :: .int n :: rest))).setVm vm₁).setTop { F0 m pc ls (.int k :: .int n :: rest) with stack := rest } = (T.setVm vm₁).setTop { F0 m pc ls (.int k :: .int n :: rest) with stack := rest } := by
    show ((T.setVm vm₁).setTop _).setTop _ = _
    rw [State.setTop_setTop]
  rw [eS, mg_setTop]
  simp only [wp_bind', W.mark, W.pushRef, State.topJava?_setTop' _ XF.here.top, Option.some.injEq, exists_eq_left', State.setTop_setTop, State.heap_setTop]
  intro acts
  simp [jvm, XF.here.top]
  exact a1
end MGS
