/-! T, more: rows of arrays, copies, clones, elements of Object[] -/
def tRow (h : tH) (p : Int) (f : Int → Int) : tH := ((h.1.1, fun q j => if q = p then f j else h.1.2 q j), h.2)
theorem tR.row {D : tD} {b0 : Nat} {h : tH} {H H' : Heap} {a : Nat} {f : Int → Int} (hR : tR D b0 h H) (hz : H'.size = H.size) (ho : ∀ q : Nat, q ≠ a → H'[q]? = H[q]?) (ha : tOK D (tRow h ((a : Int) + 1) f) a H') : tR D b0 (tRow h ((a : Int) + 1) f) H' := by
  refine ⟨by rw [hz]; exact hR.1, fun p hp => ?_, hR.2.2⟩
  obtain ⟨b, h1, h2, h3, h4⟩ := hR.2.1 p hp
  refine ⟨b, h1, by rw [hz]; exact h2, h3, ?_⟩
  by_cases hb : b = a
  · rw [hb]; exact ha
  · refine h4.kept rfl ?_ rfl rfl (ho b hb)
    funext j
    have hne : ¬ ((b : Int) + 1 = (a : Int) + 1) := fun q => hb (by omega)
    show (if (b : Int) + 1 = (a : Int) + 1 then f j else h.1.2 ((b : Int) + 1) j) = _
    rw [if_neg hne]
theorem t_arrOK {D : tD} {h : tH} {a k : Nat} {ty : FieldType} {H' : Heap} (hc : k < 1000) (hp : h.2.2.1 ((a : Int) + 1) = 1000 + k) (hy : xar k = some ty) (g1 : 0 ≤ h.2.1 ((a : Int) + 1)) (g2 : h.2.1 ((a : Int) + 1) < 2147483648)
    (he : H'[a]? = some (arrV (D.2.2 k) (h.2.1 ((a : Int) + 1)).toNat (fun j => tE (kdF ty) (h.1.2 ((a : Int) + 1) j)))) : tOK D h a H' := by
  refine ⟨fun c' q' hc' hq' => ?_, fun k' ty' hk' hy' => ?_⟩
  · have e2 : c' = 1000 + k := hc'.symm.trans hp
    subst e2
    exact absurd hq' (by
      unfold xcl
      split <;> first | (exfalso; omega) | (intro z; cases z))
  · have e2 : k' = k := by omega
    subst e2
    cases hy.symm.trans hy'
    exact ⟨g1, g2, he⟩
/-- a new cell at the end -/
theorem tR.grow {D : tD} {b0 : Nat} {h h' : tH} {H H' : Heap} (hR : tR D b0 h H) (hb : b0 ≤ H.size) (hz : H'.size = H.size + 1) (ho : ∀ q : Nat, q < H.size → H'[q]? = H[q]?) (e : ∀ q, q ≠ h.2.2.2.1 → h'.1.1 q = h.1.1 q ∧ h'.1.2 q = h.1.2 q ∧ h'.2.1 q = h.2.1 q ∧ h'.2.2.1 q = h.2.2.1 q) (e2 : h'.2.2.2.1 = h.2.2.2.1 + 1) (ha : tOK D h' H.size H') : tR D b0 h' H' := by
  have e0 := hR.1
  refine ⟨by rw [e2, hz]; omega, fun p hp => ?_, fun j => by rw [(e 0 (by omega)).1]; exact hR.2.2 j⟩
  by_cases hpn : p = h.2.2.2.1
  · exact ⟨H.size, by omega, by omega, fun _ => hb, ha⟩
  · obtain ⟨k1, k2, k3, k4⟩ := e p hpn
    rw [k4] at hp
    obtain ⟨b, h1, h2, h3, h4⟩ := hR.2.1 p hp
    refine ⟨b, h1, by omega, fun q => h3 (by rw [← k4]; exact q), h4.kept ?_ ?_ ?_ ?_ (ho b h2)⟩
    · rw [← h1]; exact k1
    · rw [← h1]; exact k2
    · rw [← h1]; exact k3
    · rw [← h1]; exact k4
/-- elements of Object[]: their classes -/
def xO (c : Nat) : Option String := match c with
  | 34 => some "LandMapModel$State"
  | 35 => some "LandMap$Feature"
  | 39 => some "LandMapModel$Feature"
  | 40 => some "LandMap$Raster"
  | 41 => some "LandMapModel$Raster"
  | 47 => some "java/lang/Integer"
  | 1001 => some "[J"
  | 2047 => some "java/lang/Integer"
  | _ => none
theorem zqState : (Jvm.Cond.castable "LandMapModel$State" "java/lang/Object") ∈ lw_tbl := lw_at lw_m18 190 rfl
theorem zqF : (Jvm.Cond.castable "LandMap$Feature" "java/lang/Object") ∈ lw_tbl := lw_at lw_m18 151 rfl
theorem zqMF : (Jvm.Cond.castable "LandMapModel$Feature" "java/lang/Object") ∈ lw_tbl := lw_at lw_m18 153 rfl
theorem zqR : (Jvm.Cond.castable "LandMap$Raster" "java/lang/Object") ∈ lw_tbl := lw_at lw_m18 193 rfl
theorem zqMR : (Jvm.Cond.castable "LandMapModel$Raster" "java/lang/Object") ∈ lw_tbl := lw_at lw_m18 154 rfl
theorem zqI : (Jvm.Cond.castable "java/lang/Integer" "java/lang/Object") ∈ lw_tbl := lw_at lw_m18 192 rfl
theorem zqJ : (Jvm.Cond.castable "[J" "java/lang/Object") ∈ lw_tbl := lw_at lw_m18 205 rfl
theorem xO_w {c : Nat} {nm : String} (h : xO c = some nm) : Cond.castable nm "java/lang/Object" ∈ lw_tbl := by
  unfold xO at h
  split at h
  · cases h; exact zqState
  · cases h; exact zqF
  · cases h; exact zqMF
  · cases h; exact zqR
  · cases h; exact zqMR
  · cases h; exact zqI
  · cases h; exact zqJ
  · cases h; exact zqI
  · cases h
theorem xO_cell {D : tD} {b0 : Nat} {h : tH} {H : Heap} (hR : tR D b0 h H) {s : State} (hK : tK D s) {v : Int} {nm : String} (hv : xO (h.2.2.1 v) = some nm) : ∃ (a : Nat) (cell : Cell), v = (a : Int) + 1 ∧ H[a]? = some cell ∧ cell.vm = .none ∧ s.vm.findClass nm = some cell.cls := by
  unfold xO at hv
  split at hv
  · rename_i hc; cases hv; obtain ⟨a, e, ha, cell, q1, q2, q3, q4⟩ := hR.objO (c := 34) (by decide) hc rfl; exact ⟨a, cell, e, q1, q3, by rw [q2]; exact (hK.1 34 _ rfl).2.1⟩
  · rename_i hc; cases hv; obtain ⟨a, e, ha, cell, q1, q2, q3, q4⟩ := hR.objO (c := 35) (by decide) hc rfl; exact ⟨a, cell, e, q1, q3, by rw [q2]; exact (hK.1 35 _ rfl).2.1⟩
  · rename_i hc; cases hv; obtain ⟨a, e, ha, cell, q1, q2, q3, q4⟩ := hR.objO (c := 39) (by decide) hc rfl; exact ⟨a, cell, e, q1, q3, by rw [q2]; exact (hK.1 39 _ rfl).2.1⟩
  · rename_i hc; cases hv; obtain ⟨a, e, ha, cell, q1, q2, q3, q4⟩ := hR.objO (c := 40) (by decide) hc rfl; exact ⟨a, cell, e, q1, q3, by rw [q2]; exact (hK.1 40 _ rfl).2.1⟩
  · rename_i hc; cases hv; obtain ⟨a, e, ha, cell, q1, q2, q3, q4⟩ := hR.objO (c := 41) (by decide) hc rfl; exact ⟨a, cell, e, q1, q3, by rw [q2]; exact (hK.1 41 _ rfl).2.1⟩
  · rename_i hc; cases hv; obtain ⟨a, e, ha, cell, q1, q2, q3, q4⟩ := hR.objO (c := 47) (by decide) hc rfl; exact ⟨a, cell, e, q1, q3, by rw [q2]; exact (hK.1 47 _ rfl).2.1⟩
  · rename_i hc; cases hv; obtain ⟨a, e, ha, g1, g2, g3⟩ := hR.arrO (k := 1) (by decide) hc rfl; exact ⟨a, _, e, g3, rfl, (hK.2 1 _ rfl).2⟩
  · rename_i hc; cases hv; obtain ⟨a, e, ha, cell, q1, q2, q3, q4⟩ := hR.objO (c := 2047) (by decide) hc rfl; exact ⟨a, cell, e, q1, q3, by rw [q2]; exact (hK.1 2047 _ rfl).2.1⟩
  · cases hv
def okO (h : tH) (v : Int) : Bool := decide (v = 0 ∨ (xO (h.2.2.1 v)).isSome = true)
/-- a value that an Object[] takes -/
theorem okO_takes {D : tD} {b0 : Nat} {h : tH} {H : Heap} (hR : tR D b0 h H) {s : State} (hK : tK D s) (hKw : tKw s) {T : State} (hT : T.heap = H) {vm' : Vm} (hal : s.vm.Alike vm') {comp : ClassId} (hcomp : s.vm.findClass "java/lang/Object" = some comp) {v : Int} (hv : v = 0 ∨ (xO (h.2.2.1 v)).isSome = true) : fits (.object "java/lang/Object") (tE 2 v) = true ∧ (T.setVm vm').takes comp (tE 2 v) := by
  rcases hv with rfl | hv
  · exact ⟨rfl, trivial⟩
  · obtain ⟨nm, hnm⟩ := Option.isSome_iff_exists.mp hv
    obtain ⟨a, cell, rfl, g1, g2, g3⟩ := xO_cell hR hK hnm
    obtain ⟨c0, t0, f1, f2, f3⟩ := Cond.castable_spec (va_Nw.use (A := #[]) rfl (hKw _ (xO_w hnm) rfl))
    cases g3.symm.trans f1
    cases hcomp.symm.trans f2
    obtain ⟨kC, hkC, -⟩ := Vm.findClass_spec f1
    obtain ⟨kE, hkE, -⟩ := Vm.findClass_spec f2
    obtain ⟨kC', hkC', -⟩ := hal.2.2 _ _ hkC
    obtain ⟨kE', hkE', -⟩ := hal.2.2 _ _ hkE
    rw [tE_ptr]
    refine ⟨rfl, cell, (show T.heap[a]? = some cell by rw [hT]; exact g1), (fun q h => by rw [g2] at h; cases h), ⟨kC', hkC'⟩, ⟨kE', hkE'⟩, ?_⟩
    show vm'.assignable _ _ = true
    rw [hal.assignable]
    exact f3
def mx_aastO : tX → tX := mx_astG 10 okO (fun h v => v = 0 ∨ (xO (h.2.2.1 v)).isSome = true) (fun h v hv => decide_eq_true hv)
def tCp (h : tH) (src sp dst dp n : Int) : tH := tRow h dst (fun j => if dp ≤ j ∧ j < dp + n then h.1.2 src (sp + (j - dp)) else h.1.2 dst j)
def cpG (G : tH → Int → Prop) (t : Nat) (h : tH) (src sp dst dp n : Int) : Prop := (h.2.2.1 src = 1000 + t ∧ h.2.2.1 dst = 1000 + t ∧ 0 ≤ sp ∧ 0 ≤ dp ∧ 0 ≤ n ∧ sp + n ≤ h.2.1 src ∧ dp + n ≤ h.2.1 dst) ∧ ∀ i, 0 ≤ i → i < n → G h (h.1.2 src (sp + i))
noncomputable def o_copy (G : tH → Int → Prop) (t : Nat) (K : tB) : tB := fun L S h => match S with
  | n :: dp :: dst :: sp :: src :: S' => @ite _ (cpG G t h src sp dst dp n) (Classical.propDecidable _) (K L S' (tCp h src sp dst dp n)) none
  | _ => none
noncomputable def mx_copy (G : tH → Int → Prop) (t : Nat) (K : tX) : tX := ⟨(o_copy G t K.1.1, fun L S h J R => match S with
  | n :: dp :: dst :: sp :: src :: S' => cpG G t h src sp dst dp n ∧ K.1.2 L S' (tCp h src sp dst dp n) J R
  | _ => False), fun L S h J R H => match S, H with
  | n :: dp :: dst :: sp :: src :: S', H => @pIf _ (Classical.propDecidable _) _ _ H.1 (K.2 _ _ _ _ _ H.2)⟩
theorem nfw_ac : nativeFrameWords "java/lang/System" "arraycopy" 5 ≤ 16 := by decide
theorem t_pos {n : Int} (h0 : 0 ≤ n) (h1 : n < 2147483648) : (Int32.ofInt n).toNatClampNeg = n.toNat ∧ ¬ Int32.ofInt n < 0 ∧ (Int32.ofInt n).toInt = n := by
  have e : (Int32.ofInt n).toInt = n := t32 ⟨by omega, by omega⟩
  refine ⟨by show (Int32.ofInt n).toInt.toNat = _; rw [e], fun z => ?_, e⟩
  have := Int32.lt_iff_toInt_lt.mp z
  rw [e] at this
  have h00 : (0 : Int32).toInt = 0 := by decide
  omega
section TX3
variable {E : tM} {pc : Nat} {lt : List (Nat × Nat)} {ts : List Nat} {K : tX}
theorem ms_copy (t : Nat) (ht9 : t < 1000) {ty : FieldType} (ht : xar t = some ty) {G : tH → Int → Prop} {idx : Nat}
    (hel : ∀ (D : tD) (b0 : Nat) (h : tH) (H : Heap) (s T : State) (vm' : Vm) (comp : ClassId), tR D b0 h H → tK D s → tKw s → T.heap = H → s.vm.Alike vm' → (∃ kA : Class, s.vm.classes[D.2.2 t]? = some kA ∧ kA.kind = .array comp ty) → ∀ v, G h v → fits ty (tE (kdF ty) v) = true ∧ (T.setVm vm').takes comp (tE (kdF ty) v))
    (q1 : Cond.methodLink (tM.own E) idx arraycopyName ∈ lw_all) (q2 : Cond.native arraycopyName ∈ lw_all) (q3 : Cond.static arraycopyName ∈ lw_all) (q4 : Cond.initialized "java/lang/System" ∈ lw_all) (hfr : 1 ≤ tM.fr E) (hlo : (ts.map kCat).sum + 27 ≤ tM.lo E) (hd : decode (tM.cc E) pc = .ok (.invokestatic idx, 3)) (hK : tSx E (pc + 3) lt ts K) : tSx E pc lt (0 :: 0 :: 2 :: 0 :: 2 :: ts) (mx_copy G t K) :=
  tSd.stepG (K := K.1.1) hK fun L S h r hB hS hL => by
    match S, hB, hS with
    | n :: dp :: dst :: sp :: src :: S', hB, hS =>
      have hB : @ite _ (cpG G t h src sp dst dp n) (Classical.propDecidable _) (K.1.1 L S' (tCp h src sp dst dp n)) none = some r := hB
      split at hB
      · rename_i hg
        obtain ⟨⟨p1, p2, p3, p4, p5, p6, p7⟩, p8⟩ := hg
        refine ⟨L, S', tCp h src sp dst dp n, hB, by simpa using hS, hL, Int.le_refl _, Int.le_refl _, fun pr l e R s m args below meth cd n0 u0 fin hC _ _ _ _ _ _ hW ls H locs h1 h2 h3 => ?_⟩
        obtain ⟨a0, rfl, ha0, hb0, f1, f2, f3⟩ := h2.arr ht9 p1 ht
        obtain ⟨a, rfl, ha, hb, g1, g2, g3⟩ := h2.arr ht9 p2 ht
        obtain ⟨j1, j2, j3⟩ := t_pos p3 (by omega)
        obtain ⟨k1, k2, k3⟩ := t_pos p4 (by omega)
        obtain ⟨m1, m2, m3⟩ := t_pos p5 (by omega)
        have hts := hC.2.2.2.2.1
        have hA := (hC.2.2.2.2.2.1.2 t _ ht).1
        obtain ⟨-, kA, hkA, cm, hkk⟩ := hA 0 (fun _ => .null)
        have hkA' : s.vm.classes[(tM.D E).2.2 t]? = some kA := hkA
        rw [tSt_cons, tSt_cons, tSt_cons, tSt_cons, tSt_cons, tE_ptr, tE_ptr]
        intro T hT X
        have hlen : S'.length = ts.length := by simpa using hS
        obtain ⟨vm', X', step⟩ := X.arraycopy hC.1 hC.2.2.2.1 (hts _ q1) (hts _ q2) (hts _ q3) (hts _ q4) (src := a0) (dst := a) (cs := arrV ((tM.D E).2.2 t) (h.2.1 ((a0 : Int) + 1)).toNat (fun j => tE (kdF ty) (h.1.2 ((a0 : Int) + 1) j))) (cd := arrV ((tM.D E).2.2 t) (h.2.1 ((a : Int) + 1)).toNat (fun j => tE (kdF ty) (h.1.2 ((a : Int) + 1) j))) (srcPos := Int32.ofInt sp) (destPos := Int32.ofInt dp) (n := Int32.ofInt n) (by rw [hT]; exact f3) (by rw [hT]; exact g3)
          (fun _ h => by cases h) (fun _ h => by cases h) (fun h => by cases h) (fun h => by cases h) hkA' hkA' hkk hkk (by simp) j2 k2 m2 (by rw [j3, m3, arrV_size]; omega) (by rw [k3, m3, arrV_size]; omega)
          (fun vm₁ hal i hi => by
            rw [m1] at hi
            have e : (arrV ((tM.D E).2.2 t) (h.2.1 ((a0 : Int) + 1)).toNat (fun j => tE (kdF ty) (h.1.2 ((a0 : Int) + 1) j))).slots.getD ((Int32.ofInt sp).toNatClampNeg + i) .null = tE (kdF ty) (h.1.2 ((a0 : Int) + 1) (sp + (i : Int))) := by
              rw [j1, Array.getD_eq_getD_getElem?, arrV_read _ _ (by omega), show ((sp.toNat + i : Nat) : Int) = sp + (i : Int) by omega]
              rfl
            rw [e]
            exact hel _ _ h H s T vm₁ cm h2 hC.2.2.2.2.2.1 hC.2.2.2.2.2.2.2.2.2.2.2.2.2.1 hT hal ⟨kA, hkA', hkk⟩ _ (p8 i (by omega) (by omega)))
          (g := F0 m pc ls (.int (Int32.ofInt n) :: .int (Int32.ofInt dp) :: .ref a :: .int (Int32.ofInt sp) :: .ref a0 :: tSt ts S')) rfl (by rw [hC.2.2.1]; exact h1.1) (rest := tSt ts S') rfl (by rw [hC.2.1]; exact hd) (Nat.le_trans hfr hC.2.2.2.2.2.2.2.1) (by
            show 2 * 0 + _ + _ ≤ _
            rw [tSt_cat _ _ hlen]
            have := nfw_ac
            have := Nat.le_trans hlo hC.2.2.2.2.2.2.2.2.1
            omega)
        have e1 : copied (arrV ((tM.D E).2.2 t) (h.2.1 ((a0 : Int) + 1)).toNat (fun j => tE (kdF ty) (h.1.2 ((a0 : Int) + 1) j))) (arrV ((tM.D E).2.2 t) (h.2.1 ((a : Int) + 1)).toNat (fun j => tE (kdF ty) (h.1.2 ((a : Int) + 1) j))) (Int32.ofInt sp) (Int32.ofInt dp) (Int32.ofInt n) = arrV ((tM.D E).2.2 t) (h.2.1 ((a : Int) + 1)).toNat (fun j => tE (kdF ty) (if dp ≤ (j : Int) ∧ (j : Int) < dp + n then h.1.2 ((a0 : Int) + 1) (sp + ((j : Int) - dp)) else h.1.2 ((a : Int) + 1) j)) := by
          have e2 := va_copied (fun z : Int => tE (kdF ty) z) ((tM.D E).2.2 t) ((tM.D E).2.2 t) (n0 := (h.2.1 ((a0 : Int) + 1)).toNat) (n1 := (h.2.1 ((a : Int) + 1)).toNat) (sp := sp.toNat) (dp := dp.toNat) (n := n.toNat) (fun j => h.1.2 ((a0 : Int) + 1) j) (fun j => h.1.2 ((a : Int) + 1) j) (by omega)
          unfold copied
          rw [j1, k1, m1]
          refine e2.trans ?_
          congr 1
          funext j
          congr 1
          unfold va_cpy
          by_cases hj : dp ≤ (j : Int) ∧ (j : Int) < dp + n
          · rw [if_pos hj, if_pos (by omega)]
            show h.1.2 ((a0 : Int) + 1) ((sp.toNat + (j - dp.toNat) : Nat) : Int) = _
            exact congrArg (h.1.2 ((a0 : Int) + 1)) (by omega)
          · rw [if_neg hj, if_neg (by omega)]
        rw [e1] at X' step
        generalize hcell : arrV ((tM.D E).2.2 t) (h.2.1 ((a : Int) + 1)).toNat (fun j => tE (kdF ty) (if dp ≤ (j : Int) ∧ (j : Int) < dp + n then h.1.2 ((a0 : Int) + 1) (sp + ((j : Int) - dp)) else h.1.2 ((a : Int) + 1) j)) = cell1 at X' step
        have hheap : ((T.setVm vm').setCell a cell1).heap = H.setIfInBounds a cell1 := by rw [← hT]; rfl
        have oq : ∀ q : Nat, q ≠ a → (H.setIfInBounds a cell1)[q]? = H[q]? := fun q hq => by simp [Array.getElem?_setIfInBounds, Ne.symm hq]
        have hR' : tR (tM.D E) (tM.b0 E) (tCp h ((a0 : Int) + 1) sp ((a : Int) + 1) dp n) (H.setIfInBounds a cell1) := by
          refine h2.row (by simp) oq (t_arrOK ht9 p2 ht g1 g2 ?_)
          have : (H.setIfInBounds a cell1)[a]? = some cell1 := by simp [Array.getElem?_setIfInBounds, ha]
          rw [this, ← hcell]
          congr 2
          funext j
          show _ = tE (kdF ty) (if (a : Int) + 1 = (a : Int) + 1 then _ else _)
          rw [if_pos rfl]
        obtain ⟨t1, a1, b1⟩ := hW ls _ _ h1 hR' ⟨by simp; exact h3.1, fun q g1 g2 => by
            rw [oq q (fun e => g2 (by rw [e]; exact hb))]
            exact h3.2.1 q g1 g2, fun q hq => by
            rcases List.mem_append.mp hq with h | h
            · exact h3.2.2 q h
            · obtain ⟨z, -, hz⟩ := List.mem_map.mp h
              rw [← hz]
              exact hb⟩ _ hheap X'
        exact ⟨t1, step t1 a1, b1⟩
      · cases hB
theorem cpO_ok : ∀ (D : tD) (b0 : Nat) (h : tH) (H : Heap) (s T : State) (vm' : Vm) (comp : ClassId), tR D b0 h H → tK D s → tKw s → T.heap = H → s.vm.Alike vm' → (∃ kA : Class, s.vm.classes[D.2.2 10]? = some kA ∧ kA.kind = .array comp (.object "java/lang/Object")) → ∀ v, (v = 0 ∨ (xO (h.2.2.1 v)).isSome = true) → fits (.object "java/lang/Object") (tE (kdF (.object "java/lang/Object")) v) = true ∧ (T.setVm vm').takes comp (tE (kdF (.object "java/lang/Object")) v) := by
  intro D b0 h H s T vm' comp hR hK hKw hT hal hc v hv
  obtain ⟨kA, e1, e2⟩ := hc
  obtain ⟨kA', comp', k1, k2, k3, -⟩ := (hK.2 10 _ rfl).2
  cases e1.symm.trans k1
  cases e2.symm.trans k2
  exact okO_takes hR hK hKw hT hal k3 hv
theorem cpB_ok : ∀ (D : tD) (b0 : Nat) (h : tH) (H : Heap) (s T : State) (vm' : Vm) (comp : ClassId), tR D b0 h H → tK D s → tKw s → T.heap = H → s.vm.Alike vm' → (∃ kA : Class, s.vm.classes[D.2.2 3]? = some kA ∧ kA.kind = .array comp .byte) → ∀ v, (-128 ≤ v ∧ v ≤ 127) → fits .byte (tE (kdF .byte) v) = true ∧ (T.setVm vm').takes comp (tE (kdF .byte) v) := by
  intro D b0 h H s T vm' comp hR hK hKw hT hal hc v hv
  exact ⟨(okF_spec (t := .byte) (decide_eq_true hv)).2, trivial⟩
theorem ms_aastO (hd : decode (tM.cc E) pc = .ok (.aastore, 1)) (hK : tSx E (pc + 1) lt ts K) : tSx E pc lt (2 :: 0 :: 2 :: ts) (mx_aastO K) :=
  tSd.stepG (K := K.1.1) hK fun L S h r hB hS hL => by
    obtain ⟨v, i, q, S', rfl, hp, i0, i1, hv, hB⟩ := o_ast_some hB
    refine ⟨L, S', _, hB, by simpa using hS, hL, Int.le_refl _, Int.le_refl _, fun pr l e R s m args below meth cd n0 u0 fin hC _ _ _ _ _ _ hW ls H locs h1 h2 h3 => ?_⟩
    have ht : xar 10 = some (.object "java/lang/Object") := rfl
    obtain ⟨a, rfl, ha, hb, g1, g2, g3⟩ := h2.arr (by decide) hp ht
    obtain ⟨j1, j2, j3⟩ := t_idx i0 i1 g2
    obtain ⟨kA, comp, k1, k2, k3, -⟩ := (hC.2.2.2.2.2.1.2 10 _ ht).2
    obtain ⟨kc, hkc, -⟩ := Vm.findClass_spec k3
    have hv2 : v = 0 ∨ (xO (h.2.2.1 v)).isSome = true := of_decide_eq_true hv
    have key : ∀ (x : Value), x = tE 2 v → ∀ H' : Heap, H'[a]? = some ((arrV ((tM.D E).2.2 10) (h.2.1 ((a : Int) + 1)).toNat (fun j => tE (kdF (.object "java/lang/Object")) (h.1.2 ((a : Int) + 1) j))).setSlot (Int32.ofInt i).toNatClampNeg x) → H'.size = H.size → (∀ q, q ≠ a → H'[q]? = H[q]?) → W pr l e R s m args below meth cd H' (locs ++ [⟨a, (Int32.ofInt i).toNatClampNeg⟩]) (h.2.2.2.1 - n0).toNat (h.2.2.2.2 - u0).toNat (tQ (tM.D E) (tM.b0 E) (tM.rt E) below s n0 u0 fin) (F0 m (pc + 1) ls (tSt ts S')) := by
      intro x hx H' e1 e2 e3
      rw [hx, j1] at e1
      exact hW ls H' _ h1 (h2.putA e2 e3 (t_astOK (by decide) hp ht i0 g1 g2 (by rw [e1]; rfl))) (va_S.put1 h3 e2 e3 hb)
    rw [tSt_cons, tSt_cons, tSt_cons, tE_ptr]
    rcases hv2 with hv2 | hv2
    · subst hv2
      exact t_aastN hC.1 hC.2.1 g3 (fun q z => by cases z) (fun z => by cases z) k1 k2 rfl ⟨j2, by rw [arrV_size]; omega⟩ rfl rfl hd (key _ rfl)
    · obtain ⟨nm, hnm⟩ := Option.isSome_iff_exists.mp hv2
      obtain ⟨b, cv, rfl, v1, v2, v3⟩ := xO_cell h2 hC.2.2.2.2.2.1 hnm
      obtain ⟨c0, t0, f1, f2, f3⟩ := Cond.castable_spec (va_Nw.use (A := #[]) rfl (hC.2.2.2.2.2.2.2.2.2.2.2.2.2.1 _ (xO_w hnm) rfl))
      cases v3.symm.trans f1
      cases k3.symm.trans f2
      obtain ⟨kv, hkv, -⟩ := Vm.findClass_spec f1
      rw [tE_ptr]
      exact W.aast hC.1 hC.2.1 g3 (fun q z => by cases z) (fun z => by cases z) k1 k2 rfl hkc ⟨j2, by rw [arrV_size]; omega⟩ v1 (fun q z => by rw [v2] at z; cases z) hkv f3 rfl rfl hd (key _ (tE_ptr b).symm)
end TX3
