/-! T, more: arrays of arrays -/
theorem mk1_wp {Q : Addr → Pre} {E : CtlPost} {e : Env} {d : Bool} {acts : List Action} {s : State} {c1 : ClassId} {k : Class} {comp : ClassId} {type : FieldType} {n : Int32} (hk : s.vm.classes[c1]? = some k) (hkind : k.kind = .array comp type) (hn : ¬ n < 0) (hl : ¬ n.toNatClampNeg > e.platform.arrayLengthLimit) (hh : ¬ n.toNatClampNeg * componentBytes type > e.platform.maxHeapBytes) (hfit : fits type (defaultValue type) = true) (h1 : s.heap.size < e.platform.maxCells) (h2 : s.slotsUsed + n.toNatClampNeg ≤ e.platform.maxSlots)
    (hQ : Q s.heap.size d (allocActs (Array.replicate n.toNatClampNeg (defaultValue type)) s.heap.size acts) (s.pushCell { cls := c1, slots := Array.replicate n.toNatClampNeg (defaultValue type), vm := .none })) : wp (Op.multianewarray.make c1 [n]) Q E e d acts s := by
  have hf : ∀ (i : Nat) (v : Value), (Array.replicate n.toNatClampNeg (defaultValue type))[i]? = some v → s.fitsSlot c1 .none i v = true := by
    intro i v hv
    simp only [Array.getElem?_replicate] at hv
    split at hv
    · cases hv; simp [State.fitsSlot, State.slotType?, hk, hkind, hfit]
    · cases hv
  simp only [Op.multianewarray.make, wp_bind', W.ite, hn, if_false, wp_pure', W.theClass, hk, Option.some.injEq, exists_eq_left', hkind, Jvm.newArray, Jvm.arrayFits, W.ask, hl, hh, W.alloc, W.stop, Array.size_replicate]
  rw [if_neg (by omega)]
  exact ⟨h1, h2, hf, hQ⟩
theorem mk2_wp {Q : Addr → Pre} {E : CtlPost} {e : Env} {d : Bool} {acts : List Action} {s : State} {c0 : ClassId} {k : Class} {comp : ClassId} {type : FieldType} {n n1 : Int32} (hk : s.vm.classes[c0]? = some k) (hkind : k.kind = .array comp type) (hn : ¬ n < 0) (hn0 : ¬ n = 0) (hl : ¬ n.toNatClampNeg > e.platform.arrayLengthLimit) (hh : ¬ n.toNatClampNeg * componentBytes type > e.platform.maxHeapBytes) (hfit : fits type .null = true) (h1 : s.heap.size < e.platform.maxCells) (h2 : s.slotsUsed + n.toNatClampNeg ≤ e.platform.maxSlots)
    (hQ : wp (forIn (List.range' 0 n.toNatClampNeg) PUnit.unit (fun i _ => do
        Jvm.writeLoc s.heap.size i (.ref (← Op.multianewarray.make comp [n1]))
        Pure.pure (ForInStep.yield PUnit.unit))) (fun _ d' acts' s' => Q s.heap.size d' acts' s') E e d (allocActs (Array.replicate n.toNatClampNeg Value.null) s.heap.size acts) (s.pushCell { cls := c0, slots := Array.replicate n.toNatClampNeg .null, vm := .none })) : wp (Op.multianewarray.make c0 [n, n1]) Q E e d acts s := by
  have hf : ∀ (i : Nat) (v : Value), (Array.replicate n.toNatClampNeg Value.null)[i]? = some v → s.fitsSlot c0 .none i v = true := by
    intro i v hv
    simp only [Array.getElem?_replicate] at hv
    split at hv
    · cases hv; simp [State.fitsSlot, State.slotType?, hk, hkind, hfit]
    · cases hv
  rw [Op.multianewarray.make]
  simp only [wp_bind', W.ite, hn, if_false, wp_pure', W.theClass, hk, Option.some.injEq, exists_eq_left', hkind, Jvm.newArray, Jvm.arrayFits, W.ask, hl, hh, W.alloc, W.stop, Array.size_replicate]
  rw [if_neg (by omega), if_neg (by simpa using hn0)]
  refine ⟨h1, h2, hf, ?_⟩
  rw [Std.Legacy.Range.forIn_eq_forIn_range']
  have e9 : List.range' ([:n.toNatClampNeg] : Std.Legacy.Range).start ([:n.toNatClampNeg] : Std.Legacy.Range).size ([:n.toNatClampNeg] : Std.Legacy.Range).step = List.range' 0 n.toNatClampNeg := by simp [Std.Legacy.Range.size]
  rw [e9]
  exact hQ
/-- the rows of an array of arrays -/
def tMul (p : Int) (t1 : Nat) (n1 : Int) : Nat → Nat → tH → tH
  | 0, _, h => h
  | k + 1, i, h => tMul p t1 n1 k (i + 1) (tPutA (tNew h (1000 + t1) n1 n1) p i h.2.2.2.1)
theorem tMul_next (p : Int) (t1 : Nat) (n1 : Int) : ∀ (k i : Nat) (h : tH), (tMul p t1 n1 k i h).2.2.2.1 = h.2.2.2.1 + k ∧ (tMul p t1 n1 k i h).2.2.2.2 = h.2.2.2.2 + k * n1
  | 0, i, h => by simp [tMul]
  | k + 1, i, h => by
    obtain ⟨e1, e2⟩ := tMul_next p t1 n1 k (i + 1) (tPutA (tNew h (1000 + t1) n1 n1) p i h.2.2.2.1)
    rw [tMul, e1, e2]
    show h.2.2.2.1 + 1 + k = _ ∧ h.2.2.2.2 + n1 + k * n1 = _
    refine ⟨by omega, ?_⟩
    have : ((k + 1 : Nat) : Int) * n1 = k * n1 + n1 := by rw [Int.natCast_add, Int.add_mul]; simp
    rw [this]
    omega
/-- the state behind the rows -/
def mkSt (a : Nat) (cell1 : Cell) : Nat → Nat → State → State
  | 0, _, T => T
  | k + 1, i, T => mkSt a cell1 k (i + 1) (match (T.pushCell cell1).heap[a]? with
    | some c => (T.pushCell cell1).setCell a (c.setSlot i (.ref T.heap.size))
    | none => T)
section TMK
variable {p : Program} {l : Launch} {e : Env} {R : Room} {s : State} {m : MethodId} {args : Array Value} {below : List Frame} {meth : Method} {c : Code}
theorem mk_loop {D : tD} {b0 : Nat} (hb0 : b0 ≤ s.heap.size) (hK : tK D s) {t t1 : Nat} (ht9 : t < 1000) (ht19 : t1 < 1000) {ty1 : FieldType} (ht : xar t = some (.array ty1)) (ht1 : xar t1 = some ty1) (hok : okD ty1 = true) (hfit : fits ty1 (defaultValue ty1) = true) (hcb : componentBytes ty1 ≤ 8) {N1 : Int} (hN0 : 0 ≤ N1) (hN1 : N1 ≤ 67108864) {a : Nat} {N0 : Int} {f : JFrame} {Q : PUnit → Pre} {E0 : CtlPost} {nn0 uu0 : Int} :
    ∀ (k i : Nat) (h : tH) (T : State) (locs : List Loc) (d : Bool) (acts : List Action), Stand p l e R s m args below meth c T locs (h.2.2.2.1 - nn0).toNat (h.2.2.2.2 - uu0).toNat → tR D b0 h T.heap → va_S (fun q => b0 ≤ q) s.heap T.heap locs → h.2.2.1 ((a : Int) + 1) = 1000 + t → h.2.1 ((a : Int) + 1) = N0 → (i : Int) + k ≤ N0 → nn0 ≤ h.2.2.2.1 → uu0 ≤ h.2.2.2.2 → (h.2.2.2.1 + k - nn0).toNat ≤ R.cells → (h.2.2.2.2 + k * N1 - uu0).toNat ≤ R.slots →
      (∃ locs' : List Loc, Stand p l e R s m args below meth c (mkSt a (arrV (D.2.2 t1) N1.toNat (fun _ => tE (kdF ty1) 0)) k i T) locs' ((tMul ((a : Int) + 1) t1 N1 k i h).2.2.2.1 - nn0).toNat ((tMul ((a : Int) + 1) t1 N1 k i h).2.2.2.2 - uu0).toNat ∧ tR D b0 (tMul ((a : Int) + 1) t1 N1 k i h) (mkSt a (arrV (D.2.2 t1) N1.toNat (fun _ => tE (kdF ty1) 0)) k i T).heap ∧ va_S (fun q => b0 ≤ q) s.heap (mkSt a (arrV (D.2.2 t1) N1.toNat (fun _ => tE (kdF ty1) 0)) k i T).heap locs') ∧ ((∀ (d' : Bool) (acts' : List Action), Q PUnit.unit d' acts' ((mkSt a (arrV (D.2.2 t1) N1.toNat (fun _ => tE (kdF ty1) 0)) k i T).setTop f)) →
      wp (forIn (List.range' i k) PUnit.unit (fun i _ => do
        Jvm.writeLoc a i (.ref (← Op.multianewarray.make (D.2.2 t1) [Int32.ofInt N1]))
        Pure.pure (ForInStep.yield PUnit.unit))) Q E0 e d acts (T.setTop f)) := by
  intro k
  induction k with
  | zero =>
    intro i h T locs d acts X hR hS htag hlen hik hn hu hc1 hc2
    refine ⟨⟨locs, X, hR, hS⟩, fun hQ => ?_⟩
    simp only [List.range'_zero, List.forIn_nil, wp_pure']
    exact hQ d acts
  | succ k ih =>
    intro i h T locs d acts X hR hS htag hlen hik hn hu hc1 hc2
    have e0 := hR.1
    have hkN : ((k + 1 : Nat) : Int) * N1 = k * N1 + N1 := by rw [Int.natCast_add, Int.add_mul]; simp
    have hkN0 : 0 ≤ (k : Int) * N1 := Int.mul_nonneg (by omega) hN0
    rw [hkN] at hc2
    have hKT : tK D T := tK.moved X.warmed.alike hK
    obtain ⟨j1, j2, j3⟩ := t_pos hN0 (by omega)
    obtain ⟨-, k1, hk1, cm1, hkk1⟩ := (hKT.2 t1 _ ht1).1 0 (fun _ => .null)
    have hk1' : T.vm.classes[D.2.2 t1]? = some k1 := hk1
    obtain ⟨-, kA, hkA, cmA, hkkA⟩ := (hKT.2 t _ ht).1 0 (fun _ => .null)
    have hkA' : T.vm.classes[D.2.2 t]? = some kA := hkA
    have hca : (h.2.2.2.1 - nn0).toNat + 1 ≤ R.cells := by omega
    have hsa : (h.2.2.2.2 - uu0).toNat + N1.toNat ≤ R.slots := by omega
    obtain ⟨hr1, hr2⟩ := X.roomAbove hca hsa
    generalize hcell1 : arrV (D.2.2 t1) N1.toNat (fun _ => tE (kdF ty1) 0) = cell1 at ih ⊢
    have hsz1 : cell1.slots.size = N1.toNat := by rw [← hcell1, arrV_size]
    have hz : (T.pushCell cell1).heap.size = T.heap.size + 1 := by show (T.heap.push cell1).size = _; simp
    have ho : ∀ q : Nat, q < T.heap.size → (T.pushCell cell1).heap[q]? = T.heap[q]? := fun q hq => by
      show (T.heap.push cell1)[q]? = _
      rw [Array.getElem?_push_lt hq, Array.getElem?_eq_getElem hq]
    have hR1 : tR D b0 (tNew h (1000 + t1) N1 N1) (T.pushCell cell1).heap := hR.push (Nat.le_trans hb0 hS.1) hz ho (t_newArrOK hR ht19 ht1 hN0 (by omega) (by
      show (T.heap.push cell1)[T.heap.size]? = _
      rw [Array.getElem?_push_size, hcell1]))
    have hS1 := va_S.push1 hS hz ho
    have X1 := X.pushed cell1
    rw [hsz1] at X1
    obtain ⟨a', ea, ha, hba, g1, g2, g3⟩ := hR.arr ht9 htag ht
    have ea' : a' = a := by omega
    subst ea'
    have hne : ((a' : Int) + 1) ≠ h.2.2.2.1 := by omega
    have htag1 : (tNew h (1000 + t1) N1 N1).2.2.1 ((a' : Int) + 1) = 1000 + t := (if_neg hne).trans htag
    have hlen1 : (tNew h (1000 + t1) N1 N1).2.1 ((a' : Int) + 1) = N0 := (if_neg hne).trans hlen
    obtain ⟨a2, ea2, ha2, hba2, g1', g2', g3'⟩ := hR1.arr ht9 htag1 ht
    have ea2' : a2 = a' := by omega
    subst ea2'
    have hi0 : (0 : Int) ≤ (i : Int) := by omega
    generalize hcell2 : (arrV (D.2.2 t) ((tNew h (1000 + t1) N1 N1).2.1 ((a2 : Int) + 1)).toNat (fun j => tE (kdF (.array ty1)) ((tNew h (1000 + t1) N1 N1).1.2 ((a2 : Int) + 1) j))).setSlot i (.ref T.heap.size) = cell2
    have X2 := X1.stored g3' i (.ref T.heap.size)
    rw [hcell2] at X2
    have hz2 : ((T.pushCell cell1).setCell a2 cell2).heap.size = (T.pushCell cell1).heap.size := by rw [size_setCell]
    have ho2 : ∀ q : Nat, q ≠ a2 → ((T.pushCell cell1).setCell a2 cell2).heap[q]? = (T.pushCell cell1).heap[q]? := fun q hq => by rw [heapAt_setCell_ne _ (Ne.symm hq)]
    have he2 : ((T.pushCell cell1).setCell a2 cell2).heap[a2]? = some cell2 := heapAt_setCell_self _ ha2
    have hR2 : tR D b0 (tPutA (tNew h (1000 + t1) N1 N1) ((a2 : Int) + 1) i h.2.2.2.1) ((T.pushCell cell1).setCell a2 cell2).heap := by
      refine hR1.putA hz2 ho2 (t_astOK ht9 htag1 ht hi0 g1' g2' ?_)
      rw [he2, ← hcell2]
      show some ((arrV _ _ _).setSlot i _) = some ((arrV _ _ _).setSlot (i : Int).toNat (tE 2 h.2.2.2.1))
      rw [tE_next hR]
      rfl
    have hst : mkSt a2 cell1 (k + 1) i T = mkSt a2 cell1 k (i + 1) ((T.pushCell cell1).setCell a2 cell2) := by
      rw [mkSt, g3', ← hcell2]
    rw [hst]
    have e5 : (h.2.2.2.1 + 1 - nn0).toNat = (h.2.2.2.1 - nn0).toNat + 1 := by omega
    have e6 : (h.2.2.2.2 + N1 - uu0).toNat = (h.2.2.2.2 - uu0).toNat + N1.toNat := by omega
    have hih := ih (i + 1) (tPutA (tNew h (1000 + t1) N1 N1) ((a2 : Int) + 1) i h.2.2.2.1) ((T.pushCell cell1).setCell a2 cell2) (locs ++ [⟨a2, i⟩]) true (writeActs ⟨a2, i⟩ .plain (.ref T.heap.size) (allocActs (Array.replicate N1.toNat (tE (kdF ty1) 0)) T.heap.size acts)) (by
      show Stand p l e R s m args below meth c _ _ (h.2.2.2.1 + 1 - nn0).toNat (h.2.2.2.2 + N1 - uu0).toNat
      rw [e5, e6]
      exact X2) hR2 (va_S.put1 hS1 hz2 ho2 hba) htag1 hlen1 (by omega) (by show nn0 ≤ h.2.2.2.1 + 1; omega) (by show uu0 ≤ h.2.2.2.2 + N1; omega) (by show (h.2.2.2.1 + 1 + k - nn0).toNat ≤ _; omega) (by show (h.2.2.2.2 + N1 + k * N1 - uu0).toNat ≤ _; omega)
    refine ⟨hih.1, fun hQ => ?_⟩
    simp only [List.range'_succ, List.forIn_cons, wp_bind']
    refine mk1_wp (s := T.setTop f) (k := k1) (comp := cm1) (type := ty1) hk1' hkk1 j2 (by rw [Launch.admits_arrayLengthLimit X.admits, j1]; omega) (by
      rw [Launch.admits_maxHeapBytes X.admits, j1]
      have := Nat.mul_le_mul (show N1.toNat ≤ 67108864 by omega) hcb
      omega) hfit (by show T.heap.size < _; omega) (by show T.slotsUsed + _ ≤ _; rw [j1]; exact hr2) ?_
    rw [j1, okD_spec hok, State.heap_setTop, State.pushCell_setTop, arrV_new, hcell1]
    rw [wp_bind']
    refine (W.writeLoc _ _ _ _).mpr ⟨_, (show ((T.pushCell cell1).setTop f).heap[a2]? = _ from g3'), (fun z => by cases z), ?_, ?_, ?_⟩
    · rw [arrV_size, hlen1]
      omega
    · show ((T.pushCell cell1).setTop f).fitsSlot (D.2.2 t) .none i _ = true
      simp [State.fitsSlot, State.slotType?, hkA', hkkA, fits]
    · rw [State.setCell_setTop, hcell2]
      simp only [wp_pure']
      exact hih.2 hQ
end TMK
def tMulti (h : tH) (t t1 : Nat) (n0 n1 : Int) : tH := tMul h.2.2.2.1 t1 n1 n0.toNat 0 (tNew h (1000 + t) n0 n0)
def o_multi (t t1 : Nat) (K : tB) : tB := fun L S h => match S with
  | n1 :: n0 :: S' => if (1 ≤ n0 ∧ n0 ≤ 1000) ∧ 0 ≤ n1 ∧ n1 ≤ 67108864 then K L (h.2.2.2.1 :: S') (tMulti h t t1 n0 n1) else none
  | _ => none
def mx_multi (t t1 : Nat) (K : tX) : tX := ⟨(o_multi t t1 K.1.1, fun L S h J R => match S with
  | n1 :: n0 :: S' => ((1 ≤ n0 ∧ n0 ≤ 1000) ∧ 0 ≤ n1 ∧ n1 ≤ 67108864) ∧ K.1.2 L (h.2.2.2.1 :: S') (tMulti h t t1 n0 n1) J R
  | _ => False), fun L S h J R H => match S, H with
  | n1 :: n0 :: S', H => pIf H.1 (K.2 _ _ _ _ _ H.2)⟩
theorem multi_cold {Q : Unit → Pre} {E : CtlPost} {e : Env} {d : Bool} {acts : List Action} {s : State} {f : JFrame} {index n c : Nat} {vm' : Vm} (hs : s.topJava?.isSome) (hg : (Jvm.resolveClass f.method.cls index).Gives e.toSetting s.vm (.ok c) vm') (hr : vm'.classReady f.method.cls index c)
    (hsz : vm'.classes.size ≤ s.vm.classes.size := by no_record) :
    wp (Op.multianewarray.sem index n) Q E e d acts (s.setTop f) ↔ wp (Op.multianewarray.sem index n) Q E e d acts ((s.setVm vm').setTop f) := by
  simp only [Op.multianewarray.sem, wp_bind']
  exact W.resolveClassAt_transfer (s := s.setTop f) (State.method?_setTop f hs) hg hr
theorem multi_ready {Q : Unit → Pre} {E : CtlPost} {e : Env} {d : Bool} {acts : List Action} {s : State} {f : JFrame} {index : Nat} {c0 : ClassId} {n0 n1 : Int32} {rest : List Value} (hs : s.topJava?.isSome) (hr : s.vm.classReady f.method.cls index c0) (hstack : f.stack = .int n1 :: .int n0 :: rest)
    (hQ : wp (Op.multianewarray.make c0 [n0, n1]) (fun a d' acts' s' => ∃ f', s'.topJava? = some f' ∧ Q () true acts' (s'.setTop { f' with stack := .ref a :: f'.stack })) E e true acts (s.setTop { f with stack := rest })) :
    wp (Op.multianewarray.sem index 2) Q E e d acts (s.setTop f) := by
  simp only [Op.multianewarray.sem, wp_bind', W.resolveClassAt_ready (State.method?_setTop f hs) hr, W.popN]
  rw [if_neg (by decide)]
  refine ⟨f, State.topJava?_setTop' _ hs, [.int n0, .int n1], rest, rfl, by rw [hstack]; rfl, ?_⟩
  simp only [State.setTop_setTop, List.mapM_cons, List.mapM_nil, wp_bind', wp_pure', W.mark, W.pushRef]
  exact hQ
section TX6
variable {E : tM} {pc : Nat} {lt : List (Nat × Nat)} {ts : List Nat} {K : tX}
theorem ms_multi (t t1 : Nat) {idx : Nat} {nm : String} (ht9 : t < 1000) (ht19 : t1 < 1000) {ty1 : FieldType} (ht : xar t = some (.array ty1)) (ht1 : xar t1 = some ty1) (hok : okD ty1 = true) (hfit : fits ty1 (defaultValue ty1) = true) (hcb : componentBytes ty1 ≤ 8) (hnm : "[" ++ (FieldType.array ty1).toString = nm)
    (hco : ∀ (D : tD) (s : State), tK D s → tKw s → ∃ (kA : Class) (kc : Class), s.vm.classes[D.2.2 t]? = some kA ∧ kA.kind = .array (tCls D (1000 + t1)) (.array ty1) ∧ s.vm.classes[tCls D (1000 + t1)]? = some kc) (q1 : Cond.classLink (tM.own E) idx nm ∈ lw_all) (hd : decode (tM.cc E) pc = .ok (.multianewarray idx 2, 4)) (hK : tSx E (pc + 4) lt (2 :: ts) K) : tSx E pc lt (0 :: 0 :: ts) (mx_multi t t1 K) :=
  tSd.stepG (K := K.1.1) hK fun L S h r hB hS hL => by
    match S, hB, hS with
    | n1 :: n0' :: S', hB, hS =>
      have hB : (if (1 ≤ n0' ∧ n0' ≤ 1000) ∧ 0 ≤ n1 ∧ n1 ≤ 67108864 then K.1.1 L (h.2.2.2.1 :: S') (tMulti h t t1 n0' n1) else none) = some r := hB
      split at hB
      · rename_i hp
        obtain ⟨⟨i0, i1⟩, i2, i3⟩ := hp
        have eN : (tMulti h t t1 n0' n1).2.2.2.1 = h.2.2.2.1 + 1 + n0'.toNat := (tMul_next _ _ _ _ _ _).1
        have eU : (tMulti h t t1 n0' n1).2.2.2.2 = h.2.2.2.2 + n0' + n0'.toNat * n1 := (tMul_next _ _ _ _ _ _).2
        have hpos : 0 ≤ (n0'.toNat : Int) * n1 := Int.mul_nonneg (by omega) i2
        refine ⟨L, _, _, hB, by simpa using hS, hL, by rw [eN]; omega, by rw [eU]; omega, fun pr l e R s m args below meth cd n0 u0 fin hC a1 a2 a3 a4 a5 a6 hW ls H locs g1 g2 g3 => ?_⟩
        have hts := hC.2.2.2.2.1
        rw [eN] at a3
        rw [eU] at a4
        obtain ⟨j1, j2, j3⟩ := t_pos (n := n0') (by omega) (by omega)
        obtain ⟨kA, kc, k1, k2, k3⟩ := hco (tM.D E) s hC.2.2.2.2.2.1 hC.2.2.2.2.2.2.2.2.2.2.2.2.2.1
        have hc1 : tCls (tM.D E) (1000 + t1) = (tM.D E).2.2 t1 := by unfold tCls; rw [if_neg (by omega), show 1000 + t1 - 1000 = t1 by omega]
        rw [hc1] at k2
        have hfn : s.vm.findClass nm = some ((tM.D E).2.2 t) := by
          have hRA := (hC.2.2.2.2.2.1.2 t _ ht).2
          rw [← hnm]
          exact hRA
        rw [tSt_cons, tSt_cons]
        intro T hT X
        have hpl : e.platform.magicAccessors = ({} : Platform).magicAccessors := by rw [X.admits.platform]
        obtain ⟨cc', hfcc, hcl⟩ := Cond.classLink_spec hC.2.2.2.1 (hts _ q1) e.platform hpl
        cases hfn.symm.trans hfcc
        obtain ⟨hg₁, hwarm₁, hready₁⟩ := State.classEntry (e := e) X.warmed hcl
        generalize T.vm.noted m.cls idx (.cls ((tM.D E).2.2 t)) = vm₁ at hg₁ hwarm₁ hready₁
        have X₁ := X.noted hwarm₁
        obtain ⟨kA₁, hkA₁, heA⟩ := hwarm₁.alike.2.2 _ _ k1
        have hkind₁ : kA₁.kind = .array ((tM.D E).2.2 t1) (.array ty1) := by rw [heA]; exact k2
        have e0 := g2.1
        have hca : (h.2.2.2.1 - n0).toNat + 1 ≤ R.cells := by omega
        have hsa : (h.2.2.2.2 - u0).toNat + n0'.toNat ≤ R.slots := by omega
        obtain ⟨hr1, hr2⟩ := X₁.roomAbove hca hsa
        have hlimit : ¬ (Int32.ofInt n0').toNatClampNeg > e.platform.arrayLengthLimit := by rw [Launch.admits_arrayLengthLimit X.admits, j1]; omega
        have hheap : ¬ (Int32.ofInt n0').toNatClampNeg * componentBytes (.array ty1) > e.platform.maxHeapBytes := by
          rw [Launch.admits_maxHeapBytes X.admits, j1]; show ¬ n0'.toNat * 4 > 536870912; omega
        have hT1 : (T.setVm vm₁).heap = H := hT
        have hcellO : ({ cls := (tM.D E).2.2 t, slots := Array.replicate n0'.toNat .null, vm := .none } : Cell) = arrV ((tM.D E).2.2 t) n0'.toNat (fun _ => tE (kdF (.array ty1)) 0) := by rw [arrV_new]; rfl
        have X₂ := X₁.pushed (arrV ((tM.D E).2.2 t) n0'.toNat (fun _ => tE (kdF (.array ty1)) 0))
        rw [arrV_size] at X₂
        have hz : ((T.setVm vm₁).pushCell (arrV ((tM.D E).2.2 t) n0'.toNat (fun _ => tE (kdF (.array ty1)) 0))).heap.size = H.size + 1 := by show ((T.setVm vm₁).heap.push _).size = _; rw [hT1]; simp
        have ho : ∀ q : Nat, q < H.size → ((T.setVm vm₁).pushCell (arrV ((tM.D E).2.2 t) n0'.toNat (fun _ => tE (kdF (.array ty1)) 0))).heap[q]? = H[q]? := fun q hq => by
          show ((T.setVm vm₁).heap.push _)[q]? = _
          rw [hT1, Array.getElem?_push_lt hq, Array.getElem?_eq_getElem hq]
        have hR2 : tR (tM.D E) (tM.b0 E) (tNew h (1000 + t) n0' n0') ((T.setVm vm₁).pushCell (arrV ((tM.D E).2.2 t) n0'.toNat (fun _ => tE (kdF (.array ty1)) 0))).heap := g2.push (Nat.le_trans hC.2.2.2.2.2.2.1 g3.1) hz ho (t_newArrOK g2 ht9 ht (by omega) (by omega) (by
          show ((T.setVm vm₁).heap.push _)[H.size]? = _
          rw [hT1, Array.getElem?_push_size]))
        have e5 : (h.2.2.2.1 + 1 - n0).toNat = (h.2.2.2.1 - n0).toNat + 1 := by omega
        have e6 : (h.2.2.2.2 + n0' - u0).toNat = (h.2.2.2.2 - u0).toNat + n0'.toNat := by omega
        have ep : ((H.size : Nat) : Int) + 1 = h.2.2.2.1 := by omega
        have hlp := fun Q E0 acts => mk_loop (Q := Q) (E0 := E0) (f := F0 m pc ls (tSt ts S')) (nn0 := n0) (uu0 := u0) (N1 := n1) (a := H.size) (N0 := n0') hC.2.2.2.2.2.2.1 hC.2.2.2.2.2.1 ht9 ht19 ht ht1 hok hfit hcb i2 i3 n0'.toNat 0 (tNew h (1000 + t) n0' n0') _ locs true acts (by
          show Stand pr l e R s m args below meth cd _ _ (h.2.2.2.1 + 1 - n0).toNat (h.2.2.2.2 + n0' - u0).toNat
          rw [e5, e6]
          exact X₂) hR2 (va_S.push1 g3 hz ho) (if_pos ep) (if_pos ep) (by omega) (by show n0 ≤ h.2.2.2.1 + 1; omega) (by show u0 ≤ h.2.2.2.2 + n0'; omega) (by show (h.2.2.2.1 + 1 + _ - n0).toNat ≤ _; omega) (by show (h.2.2.2.2 + n0' + _ - u0).toNat ≤ _; omega)
        obtain ⟨⟨locs', XF, hRF, hSF⟩, -⟩ := hlp (fun _ _ _ _ => True) (fun _ _ _ => True) []
        have hwl := fun Q E0 acts => (hlp Q E0 acts).2
        clear hlp
        have hmul : tMul ((H.size : Int) + 1) t1 n1 n0'.toNat 0 (tNew h (1000 + t) n0' n0') = tMulti h t t1 n0' n1 := by rw [ep]; rfl
        rw [hmul] at XF hRF
        generalize mkSt H.size (arrV ((tM.D E).2.2 t1) n1.toNat (fun _ => tE (kdF ty1) 0)) n0'.toNat 0 ((T.setVm vm₁).pushCell (arrV ((tM.D E).2.2 t) n0'.toNat (fun _ => tE (kdF (.array ty1)) 0))) = TF at XF hRF hSF hwl
        have hw := hW ls TF.heap locs' g1 hRF hSF
        rw [tSt_cons, tE_next g2] at hw
        obtain ⟨t9, b1, b2⟩ := hw TF rfl XF
        refine ⟨t9, ?_, b2⟩
        jvm_step X.here [hC.1, hC.2.1, hd, multi_cold (e := e) (s := T) (f := F0 m pc ls (tE 0 n1 :: tE 0 n0' :: tSt ts S')) X.here.top hg₁ hready₁]
        refine multi_ready (s := T.setVm vm₁) (c0 := (tM.D E).2.2 t) (n0 := Int32.ofInt n0') (n1 := Int32.ofInt n1) (rest := tSt ts S') X.here.top hready₁ rfl ?_
        refine mk2_wp (s := (T.setVm vm₁).setTop (F0 m pc ls (tSt ts S'))) (k := kA₁) (comp := (tM.D E).2.2 t1) (type := .array ty1) hkA₁ hkind₁ j2 ?_ hlimit hheap rfl ?_ ?_ ?_
        · intro z
          have := congrArg Int32.toInt z
          rw [j3] at this
          have h00 : (0 : Int32).toInt = 0 := by decide
          omega
        · show (T.setVm vm₁).heap.size < _
          omega
        · rw [j1]
          exact hr2
        · rw [j1, State.heap_setTop, State.pushCell_setTop, hcellO, hT1]
          refine hwl _ _ _ fun d' acts' => ⟨F0 m pc ls (tSt ts S'), State.topJava?_setTop' _ XF.here.top, fun acts => ?_⟩
          have hb := XF.here
          simp [jvm, hb.top]
          exact b1
      · cases hB
end TX6
