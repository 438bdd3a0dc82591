/-! T: arrays of references, casts -/
theorem t_aastN {p : Program} {l : Launch} {e : Env} {R : Room} {s : State} {m : MethodId} {args : Array Value} {below : List Frame} {meth : Method} {c : Code} {H : Heap} {locs : List Loc} {cells slots : Nat} {Q : State → Prop} {cc : ByteArray} (hexec : p.tables.exec = Jvm.exec) (hb : c.code = cc) {a : Addr} {cell : Cell} {j : Int32} {k : Class} {comp : ClassId} {t : FieldType}
    (hcell : H[a]? = some cell) (hobj : ∀ q, cell.vm ≠ .statics q) (hknown : cell.vm ≠ .unknown) (hk : s.vm.classes[cell.cls]? = some k) (hkind : k.kind = .array comp t) (href : t.isReference = true)
    (hin : ¬ j < 0 ∧ j.toNatClampNeg < cell.slots.size)
    {g : JFrame} (hg : g.method = m) {rest : List Value} (hstack : g.stack = .null :: .int j :: .ref a :: rest) (hdg : decode cc g.pc = .ok (.aastore, 1))
    (kk : ∀ H' : Heap, H'[a]? = some (cell.setSlot j.toNatClampNeg .null) → H'.size = H.size → (∀ q, q ≠ a → H'[q]? = H[q]?) → W p l e R s m args below meth c H' (locs ++ [⟨a, j.toNatClampNeg⟩]) cells slots Q { g with pc := g.pc + 1, stack := rest }) :
    W p l e R s m args below meth c H locs cells slots Q g := by
  intro T hT X
  have hT' : T.heap[a]? = some cell := by rw [hT]; exact hcell
  obtain ⟨X', st⟩ := X.aastoreNullIn hexec hT' hobj hknown hk hkind href hin hg hstack (by rw [hb]; exact hdg)
  have hlt : a < T.heap.size := (Array.getElem?_eq_some_iff.mp hT').1
  obtain ⟨t', a1, b1⟩ := kk _ (heapAt_setCell_self _ hlt) (by rw [size_setCell, hT]) (fun q hq => by rw [heapAt_setCell_ne _ (Ne.symm hq), hT]) (T.setCell a (cell.setSlot j.toNatClampNeg .null)) rfl X'
  exact ⟨t', st t' a1, b1⟩
theorem t_asg (vm : Vm) (c : ClassId) : vm.assignable c c = true := by
  unfold Vm.assignable
  show Vm.assignableAux vm (255 + 1) c c = true
  rw [Vm.assignableAux]
  simp only [beq_self_eq_true, Bool.true_or]
def okA (et : Nat) (h : tH) (v : Int) : Bool := decide (v = 0 ∨ h.2.2.1 v = et)
/-- a cell's class by its tag -/
def tCls (D : tD) (et : Nat) : ClassId := if et < 1000 then D.1 et else D.2.2 (et - 1000)
theorem tR.cls {D : tD} {b0 : Nat} {h : tH} {H : Heap} (hR : tR D b0 h H) {s : State} (hK : tK D s) {v : Int} {et : Nat} (hv : h.2.2.1 v = et) (het : (∃ q, et < 1000 ∧ xcl et = some q) ∨ ∃ k ty, k < 1000 ∧ et = 1000 + k ∧ xar k = some ty) : ∃ (a : Nat) (cell : Cell) (kv : Class), v = (a : Int) + 1 ∧ H[a]? = some cell ∧ cell.vm = .none ∧ cell.cls = tCls D et ∧ s.vm.classes[cell.cls]? = some kv := by
  rcases het with ⟨q, h1, h2⟩ | ⟨k, ty, h1, h2, h3⟩
  · obtain ⟨a, rfl, ha, hb, cell, q1, q2, q3, q4⟩ := hR.obj h1 hv h2
    obtain ⟨-, hfc, kC, hkC, -⟩ := hK.1 et q h2
    exact ⟨a, cell, kC, rfl, q1, q3, by rw [q2]; unfold tCls; rw [if_pos h1], by rw [q2]; exact hkC⟩
  · subst h2
    obtain ⟨a, rfl, ha, hb, g1, g2, g3⟩ := hR.arr h1 hv h3
    obtain ⟨-, kC, hkC, -⟩ := (hK.2 k ty h3).1 (h.2.1 ((a : Int) + 1)).toNat (fun j => tE (kdF ty) (h.1.2 ((a : Int) + 1) j))
    exact ⟨a, _, kC, rfl, g3, rfl, by show D.2.2 k = _; unfold tCls; rw [if_neg (by omega), show 1000 + k - 1000 = k by omega], hkC⟩
section TRF
variable {E : tM} {pc : Nat} {lt : List (Nat × Nat)} {ts : List Nat} {K : tB}
/-- a reference is stored: the array's component is the class of that tag -/
theorem s_aast (t et : Nat) (ht9 : t < 1000) {ty : FieldType} (ht : xar t = some ty) (hr : ty.isReference = true) (hk2 : kdF ty = 2) (het : (∃ q, et < 1000 ∧ xcl et = some q) ∨ ∃ k ty, k < 1000 ∧ et = 1000 + k ∧ xar k = some ty)
    (hco : ∀ (D : tD) (s : State), tK D s → tKw s → ∃ (kA : Class) (kc : Class), s.vm.classes[D.2.2 t]? = some kA ∧ kA.kind = .array (tCls D et) ty ∧ s.vm.classes[tCls D et]? = some kc)
    (hd : decode (tM.cc E) pc = .ok (.aastore, 1)) (hK : tSd E (pc + 1) lt ts K) : tSd E pc lt (2 :: 0 :: 2 :: ts) (o_ast t (okA et) K) :=
  hK.stepG fun L S h r hB hS hL => by
    obtain ⟨v, i, q, S', rfl, hp, i0, i1, hv, hB⟩ := o_ast_some hB
    refine ⟨L, S', _, hB, by simpa using hS, hL, Int.le_refl _, Int.le_refl _, fun pr l e R s m args below meth cd n0 u0 fin hC _ _ _ _ _ _ hW ls H locs h1 h2 h3 => ?_⟩
    obtain ⟨a, rfl, ha, hb, g1, g2, g3⟩ := h2.arr ht9 hp ht
    obtain ⟨j1, j2, j3⟩ := t_idx i0 i1 g2
    obtain ⟨kA, kc, k1, k2, k3⟩ := hco (tM.D E) s hC.2.2.2.2.2.1 hC.2.2.2.2.2.2.2.2.2.2.2.2.2.1
    have hv2 : v = 0 ∨ h.2.2.1 v = et := of_decide_eq_true hv
    have key : ∀ (x : Value), x = tE 2 v → ∀ H' : Heap, H'[a]? = some ((arrV ((tM.D E).2.2 t) (h.2.1 ((a : Int) + 1)).toNat (fun j => tE (kdF ty) (h.1.2 ((a : Int) + 1) j))).setSlot (Int32.ofInt i).toNatClampNeg x) → H'.size = H.size → (∀ q, q ≠ a → H'[q]? = H[q]?) → W pr l e R s m args below meth cd H' (locs ++ [⟨a, (Int32.ofInt i).toNatClampNeg⟩]) (h.2.2.2.1 - n0).toNat (h.2.2.2.2 - u0).toNat (tQ (tM.D E) (tM.b0 E) (tM.rt E) below s n0 u0 fin) (F0 m (pc + 1) ls (tSt ts S')) := by
      intro x hx H' e1 e2 e3
      rw [hx, j1] at e1
      exact hW ls H' _ h1 (h2.putA e2 e3 (t_astOK ht9 hp ht i0 g1 g2 (by rw [e1, hk2]))) (va_S.put1 h3 e2 e3 hb)
    rw [tSt_cons, tSt_cons, tSt_cons, tE_ptr]
    rcases hv2 with hv2 | hv2
    · subst hv2
      exact t_aastN hC.1 hC.2.1 g3 (fun q z => by cases z) (fun z => by cases z) k1 k2 hr ⟨j2, by rw [arrV_size]; omega⟩ rfl rfl hd (key _ rfl)
    · obtain ⟨b, cv, kv, rfl, v1, v2, v3, v4⟩ := h2.cls hC.2.2.2.2.2.1 hv2 het
      rw [tE_ptr]
      exact W.aast hC.1 hC.2.1 g3 (fun q z => by cases z) (fun z => by cases z) k1 k2 hr k3 ⟨j2, by rw [arrV_size]; omega⟩ v1 (fun q z => by rw [v2] at z; cases z) v4 (by rw [v3]; exact t_asg _ _) rfl rfl hd (key _ (tE_ptr b).symm)
theorem t_coO {t c : Nat} {q : vw_C} (hc9 : c < 1000) (hc : xcl c = some q) (ht : xar t = some (.object q.1)) (D : tD) (s : State) (hK : tK D s) (_ : tKw s) : ∃ (kA : Class) (kc : Class), s.vm.classes[D.2.2 t]? = some kA ∧ kA.kind = .array (tCls D c) (.object q.1) ∧ s.vm.classes[tCls D c]? = some kc := by
  obtain ⟨kA, comp, k1, k2, k3, -⟩ := (hK.2 t _ ht).2
  obtain ⟨-, hfc, kC, hkC, -⟩ := hK.1 c q hc
  have e1 : comp = tCls D c := by
    unfold tCls
    rw [if_pos hc9]
    exact Option.some.inj (k3.symm.trans hfc)
  subst e1
  refine ⟨kA, kC, k1, k2, ?_⟩
  unfold tCls
  rw [if_pos hc9]
  exact hkC
theorem t_coA {t k : Nat} {ty : FieldType} (hk9 : k < 1000) (hk : xar k = some ty) (hn : ∀ C, ty ≠ .object C ∨ True) (ht : xar t = some (.array ty)) (hw : Cond.arrayOver (.array ty) ∈ lw_tbl) (hs : (FieldType.array ty).toString = "[" ++ ty.toString) (D : tD) (s : State) (hK : tK D s) (hKw : tKw s) : ∃ (kA : Class) (kc : Class), s.vm.classes[D.2.2 t]? = some kA ∧ kA.kind = .array (tCls D (1000 + k)) (.array ty) ∧ s.vm.classes[tCls D (1000 + k)]? = some kc := by
  obtain ⟨comp, c, kA, h1, -, h3, h4, h5⟩ := arrayOverA_spec (hKw _ hw rfl)
  have h6 := (hK.2 t _ ht).2
  have e1 : c = D.2.2 t := Option.some.inj (h5.symm.trans h6)
  subst e1
  have h7 : s.vm.findClass ("[" ++ ty.toString) = some (D.2.2 k) := by
    have h8 := (hK.2 k _ hk).2
    cases ty with
    | object C => obtain ⟨_, _, _, _, _, g4⟩ := h8; exact g4
    | _ => exact h8
  have e2 : comp = tCls D (1000 + k) := by
    unfold tCls
    rw [if_neg (by omega), show 1000 + k - 1000 = k by omega]
    rw [hs] at h1
    exact Option.some.inj (h1.symm.trans h7)
  subst e2
  obtain ⟨-, kC, hkC, -⟩ := (hK.2 k ty hk).1 0 (fun _ => .null)
  refine ⟨kA, kC, h3, h4, ?_⟩
  unfold tCls
  rw [if_neg (by omega), show 1000 + k - 1000 = k by omega]
  exact hkC
/-- anewarray of a class -/
theorem s_anewO (t : Nat) (ht9 : t < 1000) {C : String} {idx : Nat} (ht : xar t = some (.object C)) (h1 : Cond.classLink (tM.own E) idx C ∈ lw_all) (hw : Cond.arrayOver (.object C) ∈ lw_tbl) (hd : decode (tM.cc E) pc = .ok (.anewarray idx, 3)) (hK : tSd E (pc + 3) lt (2 :: ts) K) : tSd E pc lt (0 :: ts) (o_newa t K) :=
  hK.stepG fun L S h r hB hS hL => by
    obtain ⟨n, S', rfl, i0, i1, hB⟩ := o_newa_some hB
    refine ⟨L, _, _, hB, by simpa using hS, hL, by show h.2.2.2.1 ≤ h.2.2.2.1 + 1; omega, by show h.2.2.2.2 ≤ h.2.2.2.2 + _; omega, fun pr l e R s m args below meth cd n0 u0 fin hC a1 a2 a3 a4 a5 a6 hW ls H locs g1 g2 g3 => ?_⟩
    have hts := hC.2.2.2.2.1
    obtain ⟨j1, j2, -⟩ := t_idx (n := n + 1) i0 (by omega) (by omega)
    have e3 : (tNew h (1000 + t) n n).2.2.2.1 = h.2.2.2.1 + 1 := rfl
    have e4 : (tNew h (1000 + t) n n).2.2.2.2 = h.2.2.2.2 + n := rfl
    rw [e3] at a3
    rw [e4] at a4
    rw [tSt_cons]
    refine W.anew hC.1 hC.2.1 hC.2.2.2.1 (hts _ h1) (hC.2.2.2.2.2.2.2.2.2.2.2.2.2.1 _ hw rfl) rfl hd rfl j2 (by rw [j1]; omega) (by omega) (by rw [j1]; omega) (fun cA kA comp f1 f2 f3 f4 => ?_)
    obtain ⟨_, _, _, _, _, h5⟩ := (hC.2.2.2.2.2.1.2 t _ ht).2
    have hcA : cA = (tM.D E).2.2 t := Option.some.inj (f1.symm.trans h5)
    rw [hcA, j1, arrV_new]
    have hw := hW ls (H.push (arrV ((tM.D E).2.2 t) n.toNat (fun _ => .null))) locs g1 (g2.push (Nat.le_trans hC.2.2.2.2.2.2.1 g3.1) (by simp) (fun q hq => by rw [Array.getElem?_push_lt hq, Array.getElem?_eq_getElem hq]) (t_newArrOK g2 ht9 ht i0 (by omega) (by simp [kdF, tE_null]))) (va_S.push1 g3 (by simp) (fun q hq => by rw [Array.getElem?_push_lt hq, Array.getElem?_eq_getElem hq]))
    rw [tSt_cons, tE_next g2, e3, e4] at hw
    exact W.cs (by omega) (by omega) hw
/-- anewarray of an array class -/
theorem s_anewA (t : Nat) (ht9 : t < 1000) {ty : FieldType} {idx : Nat} (ht : xar t = some (.array ty)) (h1 : Cond.classLink (tM.own E) idx (FieldType.array ty).toString ∈ lw_all) (hw : Cond.arrayOver (.array ty) ∈ lw_tbl) (hd : decode (tM.cc E) pc = .ok (.anewarray idx, 3)) (hK : tSd E (pc + 3) lt (2 :: ts) K) : tSd E pc lt (0 :: ts) (o_newa t K) :=
  hK.stepG fun L S h r hB hS hL => by
    obtain ⟨n, S', rfl, i0, i1, hB⟩ := o_newa_some hB
    refine ⟨L, _, _, hB, by simpa using hS, hL, by show h.2.2.2.1 ≤ h.2.2.2.1 + 1; omega, by show h.2.2.2.2 ≤ h.2.2.2.2 + _; omega, fun pr l e R s m args below meth cd n0 u0 fin hC a1 a2 a3 a4 a5 a6 hW ls H locs g1 g2 g3 => ?_⟩
    have hts := hC.2.2.2.2.1
    obtain ⟨j1, j2, -⟩ := t_idx (n := n + 1) i0 (by omega) (by omega)
    have e3 : (tNew h (1000 + t) n n).2.2.2.1 = h.2.2.2.1 + 1 := rfl
    have e4 : (tNew h (1000 + t) n n).2.2.2.2 = h.2.2.2.2 + n := rfl
    rw [e3] at a3
    rw [e4] at a4
    rw [tSt_cons]
    refine W.anewA hC.1 hC.2.1 hC.2.2.2.1 (hts _ h1) (hC.2.2.2.2.2.2.2.2.2.2.2.2.2.1 _ hw rfl) rfl hd rfl j2 (by rw [j1]; omega) (by omega) (by rw [j1]; omega) (fun cA kA comp f1 f2 f3 f4 => ?_)
    have h5 := (hC.2.2.2.2.2.1.2 t _ ht).2
    have hcA : cA = (tM.D E).2.2 t := Option.some.inj (f1.symm.trans h5)
    rw [hcA, j1, arrV_new]
    have hw := hW ls (H.push (arrV ((tM.D E).2.2 t) n.toNat (fun _ => .null))) locs g1 (g2.push (Nat.le_trans hC.2.2.2.2.2.2.1 g3.1) (by simp) (fun q hq => by rw [Array.getElem?_push_lt hq, Array.getElem?_eq_getElem hq]) (t_newArrOK g2 ht9 ht i0 (by omega) (by simp [kdF, tE_null]))) (va_S.push1 g3 (by simp) (fun q hq => by rw [Array.getElem?_push_lt hq, Array.getElem?_eq_getElem hq]))
    rw [tSt_cons, tE_next g2, e3, e4] at hw
    exact W.cs (by omega) (by omega) hw
/-- a cast that holds: the object is of just that class -/
def o_cast (et : Nat) (K : tB) : tB := fun L S h => match S with
  | p :: S' => if h.2.2.1 p = et then K L (p :: S') h else none
  | _ => none
theorem o_cast_some {et : Nat} {L S : List Int} {h : tH} {r : tN} (hB : o_cast et K L S h = some r) : ∃ p S', S = p :: S' ∧ h.2.2.1 p = et ∧ K L (p :: S') h = some r := by
  match S, hB with
  | [], hB => cases hB
  | p :: S', hB =>
    unfold o_cast at hB
    simp only at hB
    split at hB
    · exact ⟨p, S', rfl, ‹_›, hB⟩
    · cases hB
theorem s_cast (et : Nat) {nm : String} {idx : Nat} (het : (∃ q, et < 1000 ∧ xcl et = some q) ∨ ∃ k ty, k < 1000 ∧ et = 1000 + k ∧ xar k = some ty) (hnm : ∀ (D : tD) (s : State), tK D s → s.vm.findClass nm = some (tCls D et)) (h1 : Cond.classLink (tM.own E) idx nm ∈ lw_all) (hd : decode (tM.cc E) pc = .ok (.checkcast idx, 3)) (hK : tSd E (pc + 3) lt (2 :: ts) K) : tSd E pc lt (2 :: ts) (o_cast et K) :=
  hK.step fun L S h r hB hS hL => by
    obtain ⟨q, S', rfl, hp, hB⟩ := o_cast_some hB
    refine ⟨L, _, hB, by simpa using hS, hL, fun pr l e R s m args below meth cd n0 u0 fin hC hW ls H locs g1 g2 g3 => ?_⟩
    obtain ⟨a, cell, kv, rfl, v1, v2, v3, v4⟩ := g2.cls hC.2.2.2.2.2.1 hp het
    have hw := hW ls H locs g1 g2 g3
    rw [tSt_cons, tE_ptr] at hw ⊢
    intro T hT X
    obtain ⟨vm', X', st⟩ := X.checkcastYes hC.1 hC.2.2.2.1 (hC.2.2.2.2.1 _ h1) (by rw [hT]; exact v1) (by rw [v2]; rfl) (hnm _ s hC.2.2.2.2.2.1) (by rw [v3]; exact t_asg _ _) (g := F0 m pc ls (.ref a :: tSt ts S')) rfl rfl (by rw [hC.2.1]; exact hd)
    obtain ⟨t, a1, b1⟩ := hw (T.setVm vm') hT X'
    exact ⟨t, st t a1, b1⟩
end TRF
