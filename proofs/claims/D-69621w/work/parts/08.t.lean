/-! T: arrays, what the machine does -/
theorem t_idx {i n : Int} (h0 : 0 ≤ i) (h1 : i < n) (h2 : n < 2147483648) : (Int32.ofInt i).toNatClampNeg = i.toNat ∧ ¬ Int32.ofInt i < 0 ∧ ¬ n.toNat ≤ (Int32.ofInt i).toNatClampNeg := by
  have e1 : (Int32.ofInt i).toInt = i := t32 ⟨by omega, by omega⟩
  have e2 : (Int32.ofInt i).toNatClampNeg = i.toNat := by
    rw [← Int32.toNat_toInt, e1]
  refine ⟨e2, ?_, by rw [e2]; omega⟩
  rw [Int32.lt_iff_toInt_lt, e1, Int32.toInt_zero]
  omega
theorem o_ald_some {t : Nat} {K : tB} {L S : List Int} {h : tH} {r : tN} (hB : o_ald t K L S h = some r) : ∃ i p S', S = i :: p :: S' ∧ h.2.2.1 p = 1000 + t ∧ 0 ≤ i ∧ i < h.2.1 p ∧ K L (h.1.2 p i :: S') h = some r := by
  match S, hB with
  | [], hB => cases hB
  | [a], hB => cases hB
  | i :: p :: S', hB =>
    unfold o_ald at hB
    simp only at hB
    split at hB
    · rename_i hq
      exact ⟨i, p, S', rfl, hq.1, hq.2.1, hq.2.2, hB⟩
    · cases hB
theorem o_ast_some {t : Nat} {ok : tH → Int → Bool} {K : tB} {L S : List Int} {h : tH} {r : tN} (hB : o_ast t ok K L S h = some r) : ∃ v i p S', S = v :: i :: p :: S' ∧ h.2.2.1 p = 1000 + t ∧ 0 ≤ i ∧ i < h.2.1 p ∧ ok h v = true ∧ K L S' (tPutA h p i v) = some r := by
  match S, hB with
  | [], hB => cases hB
  | [a], hB => cases hB
  | [a, b], hB => cases hB
  | v :: i :: p :: S', hB =>
    unfold o_ast at hB
    simp only at hB
    split at hB
    · rename_i hq
      exact ⟨v, i, p, S', rfl, hq.1, hq.2.1, hq.2.2.1, hq.2.2.2, hB⟩
    · cases hB
theorem o_alen_some {t : Nat} {K : tB} {L S : List Int} {h : tH} {r : tN} (hB : o_alen t K L S h = some r) : ∃ p S', S = p :: S' ∧ h.2.2.1 p = 1000 + t ∧ K L (h.2.1 p :: S') h = some r := by
  match S, hB with
  | [], hB => cases hB
  | p :: S', hB =>
    unfold o_alen at hB
    simp only at hB
    split at hB
    · exact ⟨p, S', rfl, ‹_›, hB⟩
    · cases hB
/-- an array is written -/
theorem t_astOK {D : tD} {h : tH} {a k : Nat} {i v : Int} {ty : FieldType} {H' : Heap} (hc : k < 1000) (hp : h.2.2.1 ((a : Int) + 1) = 1000 + k) (hy : xar k = some ty) (h0 : 0 ≤ i) (g1 : 0 ≤ h.2.1 ((a : Int) + 1)) (g2 : h.2.1 ((a : Int) + 1) < 2147483648)
    (he : H'[a]? = some ((arrV (D.2.2 k) (h.2.1 ((a : Int) + 1)).toNat (fun j => tE (kdF ty) (h.1.2 ((a : Int) + 1) j))).setSlot i.toNat (tE (kdF ty) v))) : tOK D (tPutA h ((a : Int) + 1) i v) a H' := by
  refine ⟨fun c' q' hc' hq' => ?_, fun k' ty' hk' hy' => ?_⟩
  · have e1 : h.2.2.1 ((a : Int) + 1) = c' := hc'
    have e2 : c' = 1000 + k := e1.symm.trans hp
    subst e2
    exact absurd hq' (by
      unfold xcl
      split <;> first | (exfalso; omega) | (intro z; cases z))
  · have e1 : h.2.2.1 ((a : Int) + 1) = 1000 + k' := hk'
    have e2 : k' = k := by omega
    subst e2
    have e3 : ty' = ty := Option.some.inj (hy'.symm.trans hy)
    subst e3
    refine ⟨g1, g2, ?_⟩
    rw [he, arrV_store]
    show some (arrV _ _ _) = some (arrV _ (h.2.1 ((a : Int) + 1)).toNat _)
    congr 2
    funext q
    show updV _ i.toNat _ q = tE (kdF ty') (if (a : Int) + 1 = (a : Int) + 1 ∧ (q : Int) = i then v else h.1.2 ((a : Int) + 1) q)
    by_cases hq : q = i.toNat
    · have hq2 : (q : Int) = i := by omega
      rw [if_pos ⟨rfl, hq2⟩]
      simp [updV, hq]
    · have hq2 : ¬ (q : Int) = i := by omega
      simp [updV, hq, hq2]
section TAR
variable {E : tM} {pc : Nat} {lt : List (Nat × Nat)} {ts : List Nat} {K : tB}
theorem s_iald (hd : decode (tM.cc E) pc = .ok (.iaload, 1)) (hK : tSd E (pc + 1) lt (0 :: ts) K) : tSd E pc lt (0 :: 2 :: ts) (o_ald 0 K) :=
  hK.step fun L S h r hB hS hL => by
    obtain ⟨i, q, S', rfl, hp, i0, i1, hB⟩ := o_ald_some hB
    refine ⟨L, _, hB, by simpa using hS, hL, fun pr l e R s m args below meth cd n0 u0 fin hC hW ls H locs h1 h2 h3 => ?_⟩
    obtain ⟨a, rfl, ha, hb, g1, g2, g3⟩ := h2.arr (by decide) hp (show xar 0 = some (.int) from rfl)
    obtain ⟨j1, j2, j3⟩ := t_idx i0 i1 g2
    have hw := hW ls H locs h1 h2 h3
    rw [tSt_cons, tSt_cons, tE_ptr]
    refine W.iald hC.1 hC.2.1 g3 ((hC.2.2.2.2.2.1.2 0 _ rfl).1 _ _) (fun q => by cases q) (by rw [arrV_size]; exact fun z => z.elim j2 j3) (v := tE 0 (h.1.2 ((a : Int) + 1) i)) ?_ rfl rfl hd hw
    rw [arrV_read _ _ (by omega), j1, show ((i.toNat : Nat) : Int) = i by omega]
    rfl
theorem s_lald (hd : decode (tM.cc E) pc = .ok (.laload, 1)) (hK : tSd E (pc + 1) lt (1 :: ts) K) : tSd E pc lt (0 :: 2 :: ts) (o_ald 1 K) :=
  hK.step fun L S h r hB hS hL => by
    obtain ⟨i, q, S', rfl, hp, i0, i1, hB⟩ := o_ald_some hB
    refine ⟨L, _, hB, by simpa using hS, hL, fun pr l e R s m args below meth cd n0 u0 fin hC hW ls H locs h1 h2 h3 => ?_⟩
    obtain ⟨a, rfl, ha, hb, g1, g2, g3⟩ := h2.arr (by decide) hp (show xar 1 = some (.long) from rfl)
    obtain ⟨j1, j2, j3⟩ := t_idx i0 i1 g2
    have hw := hW ls H locs h1 h2 h3
    rw [tSt_cons, tSt_cons, tE_ptr]
    refine W.lald hC.1 hC.2.1 g3 ((hC.2.2.2.2.2.1.2 1 _ rfl).1 _ _) (fun q => by cases q) (by rw [arrV_size]; exact fun z => z.elim j2 j3) (v := tE 1 (h.1.2 ((a : Int) + 1) i)) ?_ rfl rfl hd hw
    rw [arrV_read _ _ (by omega), j1, show ((i.toNat : Nat) : Int) = i by omega]
    rfl
theorem s_zald (hd : decode (tM.cc E) pc = .ok (.baload, 1)) (hK : tSd E (pc + 1) lt (0 :: ts) K) : tSd E pc lt (0 :: 2 :: ts) (o_ald 2 K) :=
  hK.step fun L S h r hB hS hL => by
    obtain ⟨i, q, S', rfl, hp, i0, i1, hB⟩ := o_ald_some hB
    refine ⟨L, _, hB, by simpa using hS, hL, fun pr l e R s m args below meth cd n0 u0 fin hC hW ls H locs h1 h2 h3 => ?_⟩
    obtain ⟨a, rfl, ha, hb, g1, g2, g3⟩ := h2.arr (by decide) hp (show xar 2 = some (.boolean) from rfl)
    obtain ⟨j1, j2, j3⟩ := t_idx i0 i1 g2
    have hw := hW ls H locs h1 h2 h3
    rw [tSt_cons, tSt_cons, tE_ptr]
    refine W.zald hC.1 hC.2.1 g3 ((hC.2.2.2.2.2.1.2 2 _ rfl).1 _ _) (fun q => by cases q) (by rw [arrV_size]; exact fun z => z.elim j2 j3) (v := tE 0 (h.1.2 ((a : Int) + 1) i)) ?_ rfl rfl hd hw
    rw [arrV_read _ _ (by omega), j1, show ((i.toNat : Nat) : Int) = i by omega]
    rfl
theorem s_bald (hd : decode (tM.cc E) pc = .ok (.baload, 1)) (hK : tSd E (pc + 1) lt (0 :: ts) K) : tSd E pc lt (0 :: 2 :: ts) (o_ald 3 K) :=
  hK.step fun L S h r hB hS hL => by
    obtain ⟨i, q, S', rfl, hp, i0, i1, hB⟩ := o_ald_some hB
    refine ⟨L, _, hB, by simpa using hS, hL, fun pr l e R s m args below meth cd n0 u0 fin hC hW ls H locs h1 h2 h3 => ?_⟩
    obtain ⟨a, rfl, ha, hb, g1, g2, g3⟩ := h2.arr (by decide) hp (show xar 3 = some (.byte) from rfl)
    obtain ⟨j1, j2, j3⟩ := t_idx i0 i1 g2
    have hw := hW ls H locs h1 h2 h3
    rw [tSt_cons, tSt_cons, tE_ptr]
    refine W.bald hC.1 hC.2.1 g3 ((hC.2.2.2.2.2.1.2 3 _ rfl).1 _ _) (fun q => by cases q) (by rw [arrV_size]; exact fun z => z.elim j2 j3) (v := tE 0 (h.1.2 ((a : Int) + 1) i)) ?_ rfl rfl hd hw
    rw [arrV_read _ _ (by omega), j1, show ((i.toNat : Nat) : Int) = i by omega]
    rfl
theorem s_iast (hd : decode (tM.cc E) pc = .ok (.iastore, 1)) (hK : tSd E (pc + 1) lt ts K) : tSd E pc lt (0 :: 0 :: 2 :: ts) (o_ast 0 (fun _ => okF (.int)) K) :=
  hK.stepG fun L S h r hB hS hL => by
    obtain ⟨v, i, q, S', rfl, hp, i0, i1, hv, hB⟩ := o_ast_some hB
    refine ⟨L, S', _, hB, by simpa using hS, hL, Int.le_refl _, Int.le_refl _, fun pr l e R s m args below meth cd n0 u0 fin hC _ _ _ _ _ _ hW ls H locs h1 h2 h3 => ?_⟩
    obtain ⟨a, rfl, ha, hb, g1, g2, g3⟩ := h2.arr (by decide) hp (show xar 0 = some (.int) from rfl)
    obtain ⟨j1, j2, j3⟩ := t_idx i0 i1 g2
    rw [tSt_cons, tSt_cons, tSt_cons, tE_ptr]
    refine W.iast hC.1 hC.2.1 g3 ((hC.2.2.2.2.2.1.2 0 _ rfl).1 _ _) (fun q => by cases q) (by rw [arrV_size]; exact fun z => z.elim j2 j3) rfl rfl hd (fun H' e1 e2 e3 => ?_)
    rw [j1] at e1
    exact hW ls H' _ h1 (h2.putA e2 e3 (t_astOK (by decide) hp (show xar 0 = some (.int) from rfl) i0 g1 g2 e1)) (va_S.put1 h3 e2 e3 hb)
theorem s_last (hd : decode (tM.cc E) pc = .ok (.lastore, 1)) (hK : tSd E (pc + 1) lt ts K) : tSd E pc lt (1 :: 0 :: 2 :: ts) (o_ast 1 (fun _ => okF (.long)) K) :=
  hK.stepG fun L S h r hB hS hL => by
    obtain ⟨v, i, q, S', rfl, hp, i0, i1, hv, hB⟩ := o_ast_some hB
    refine ⟨L, S', _, hB, by simpa using hS, hL, Int.le_refl _, Int.le_refl _, fun pr l e R s m args below meth cd n0 u0 fin hC _ _ _ _ _ _ hW ls H locs h1 h2 h3 => ?_⟩
    obtain ⟨a, rfl, ha, hb, g1, g2, g3⟩ := h2.arr (by decide) hp (show xar 1 = some (.long) from rfl)
    obtain ⟨j1, j2, j3⟩ := t_idx i0 i1 g2
    rw [tSt_cons, tSt_cons, tSt_cons, tE_ptr]
    refine W.last hC.1 hC.2.1 g3 ((hC.2.2.2.2.2.1.2 1 _ rfl).1 _ _) (fun q => by cases q) (by rw [arrV_size]; exact fun z => z.elim j2 j3) rfl rfl hd (fun H' e1 e2 e3 => ?_)
    rw [j1] at e1
    exact hW ls H' _ h1 (h2.putA e2 e3 (t_astOK (by decide) hp (show xar 1 = some (.long) from rfl) i0 g1 g2 e1)) (va_S.put1 h3 e2 e3 hb)
theorem s_zast (hd : decode (tM.cc E) pc = .ok (.bastore, 1)) (hK : tSd E (pc + 1) lt ts K) : tSd E pc lt (0 :: 0 :: 2 :: ts) (o_ast 2 (fun _ => okF (.boolean)) K) :=
  hK.stepG fun L S h r hB hS hL => by
    obtain ⟨v, i, q, S', rfl, hp, i0, i1, hv, hB⟩ := o_ast_some hB
    refine ⟨L, S', _, hB, by simpa using hS, hL, Int.le_refl _, Int.le_refl _, fun pr l e R s m args below meth cd n0 u0 fin hC _ _ _ _ _ _ hW ls H locs h1 h2 h3 => ?_⟩
    obtain ⟨a, rfl, ha, hb, g1, g2, g3⟩ := h2.arr (by decide) hp (show xar 2 = some (.boolean) from rfl)
    obtain ⟨j1, j2, j3⟩ := t_idx i0 i1 g2
    rw [tSt_cons, tSt_cons, tSt_cons, tE_ptr]
    refine W.zast hC.1 hC.2.1 g3 ((hC.2.2.2.2.2.1.2 2 _ rfl).1 _ _) (fun q => by cases q) (by rw [arrV_size]; exact fun z => z.elim j2 j3) rfl rfl hd (fun H' e1 e2 e3 => ?_)
    rw [j1] at e1
    exact hW ls H' _ h1 (h2.putA e2 e3 (t_astOK (by decide) hp (show xar 2 = some (.boolean) from rfl) i0 g1 g2 (by rw [e1]; exact congrArg (fun z => some ((arrV _ _ _).setSlot _ z)) (okF_spec hv).1))) (va_S.put1 h3 e2 e3 hb)
theorem s_bast (hd : decode (tM.cc E) pc = .ok (.bastore, 1)) (hK : tSd E (pc + 1) lt ts K) : tSd E pc lt (0 :: 0 :: 2 :: ts) (o_ast 3 (fun _ => okF (.byte)) K) :=
  hK.stepG fun L S h r hB hS hL => by
    obtain ⟨v, i, q, S', rfl, hp, i0, i1, hv, hB⟩ := o_ast_some hB
    refine ⟨L, S', _, hB, by simpa using hS, hL, Int.le_refl _, Int.le_refl _, fun pr l e R s m args below meth cd n0 u0 fin hC _ _ _ _ _ _ hW ls H locs h1 h2 h3 => ?_⟩
    obtain ⟨a, rfl, ha, hb, g1, g2, g3⟩ := h2.arr (by decide) hp (show xar 3 = some (.byte) from rfl)
    obtain ⟨j1, j2, j3⟩ := t_idx i0 i1 g2
    rw [tSt_cons, tSt_cons, tSt_cons, tE_ptr]
    refine W.bast hC.1 hC.2.1 g3 ((hC.2.2.2.2.2.1.2 3 _ rfl).1 _ _) (fun q => by cases q) (by rw [arrV_size]; exact fun z => z.elim j2 j3) rfl rfl hd (fun H' e1 e2 e3 => ?_)
    rw [j1] at e1
    exact hW ls H' _ h1 (h2.putA e2 e3 (t_astOK (by decide) hp (show xar 3 = some (.byte) from rfl) i0 g1 g2 (by rw [e1]; exact congrArg (fun z => some ((arrV _ _ _).setSlot _ z)) (okF_spec hv).1))) (va_S.put1 h3 e2 e3 hb)
theorem s_alen (t : Nat) (ht9 : t < 2000) {ty : FieldType} (ht : xar t = some ty) (hd : decode (tM.cc E) pc = .ok (.arraylength, 1)) (hK : tSd E (pc + 1) lt (0 :: ts) K) : tSd E pc lt (2 :: ts) (o_alen t K) :=
  hK.step fun L S h r hB hS hL => by
    obtain ⟨q, S', rfl, hp, hB⟩ := o_alen_some hB
    refine ⟨L, _, hB, by simpa using hS, hL, fun pr l e R s m args below meth cd n0 u0 fin hC hW ls H locs h1 h2 h3 => ?_⟩
    obtain ⟨a, rfl, ha, g1, g2, g3⟩ := h2.arrO ht9 hp ht
    have hw := hW ls H locs h1 h2 h3
    rw [tSt_cons, tE_ptr]
    refine W.alen (n := Int32.ofInt (h.2.1 ((a : Int) + 1))) hC.1 hC.2.1 g3 ((hC.2.2.2.2.2.1.2 t _ ht).1 _ _) ?_ rfl rfl hd hw
    rw [arrV_size]
    apply Int32.toInt_inj.mp
    rw [t32 ⟨by omega, by omega⟩]
    have h5 : ((h.2.1 ((a : Int) + 1)).toNat.toInt32).toInt = (((h.2.1 ((a : Int) + 1)).toNat : Nat) : Int) := nI_toInt (by omega)
    rw [h5]
    omega
theorem s_aald (t : Nat) (ht9 : t < 2000) {ty : FieldType} (ht : xar t = some ty) (hr : ty.isReference = true) (hk2 : kdF ty = 2) (hd : decode (tM.cc E) pc = .ok (.aaload, 1)) (hK : tSd E (pc + 1) lt (2 :: ts) K) : tSd E pc lt (0 :: 2 :: ts) (o_ald t K) :=
  hK.step fun L S h r hB hS hL => by
    obtain ⟨i, q, S', rfl, hp, i0, i1, hB⟩ := o_ald_some hB
    refine ⟨L, _, hB, by simpa using hS, hL, fun pr l e R s m args below meth cd n0 u0 fin hC hW ls H locs h1 h2 h3 => ?_⟩
    obtain ⟨a, rfl, ha, g1, g2, g3⟩ := h2.arrO ht9 hp ht
    obtain ⟨j1, j2, j3⟩ := t_idx i0 i1 g2
    have hw := hW ls H locs h1 h2 h3
    rw [tSt_cons, tSt_cons, tE_ptr]
    refine W.aald (ty := ty) hC.1 hC.2.1 g3 ((hC.2.2.2.2.2.1.2 t _ ht).1 _ _) hr (fun q => by cases q) (by rw [arrV_size]; exact fun z => z.elim j2 j3) (v := tE 2 (h.1.2 ((a : Int) + 1) i)) ?_ rfl rfl hd hw
    rw [arrV_read _ _ (by omega), j1, show ((i.toNat : Nat) : Int) = i by omega, hk2]
end TAR
