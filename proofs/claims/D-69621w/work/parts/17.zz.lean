/-! T, more: old things, statics, String constants, class objects -/
theorem tSd.or {E : tM} {pc : Nat} {lt : List (Nat × Nat)} {ts : List Nat} {B1 B2 : tB} {P : List Int → tH → Bool} (h1 : tSd E pc lt ts B1) (h2 : tSd E pc lt ts B2) : tSd E pc lt ts (fun L S h => if P S h = true then B1 L S h else B2 L S h) := by
  intro L S h r hB
  simp only at hB
  split at hB
  · exact h1 L S h r hB
  · exact h2 L S h r hB
def o_dupx1 (K : tB) : tB := fun L S h => match S with
  | y :: x :: S' => K L (y :: x :: y :: S') h
  | _ => none
def mx_dupx1 (K : tX) : tX := ⟨(o_dupx1 K.1.1, fun L S h J R => match S with
  | y :: x :: S' => K.1.2 L (y :: x :: y :: S') h J R
  | _ => False), fun L S h J R H => match S, H with
  | y :: x :: S', H => K.2 _ _ _ _ _ H⟩
def rfO (x : Int) : Option Nat := if x = 0 then none else some (x - 1).toNat
theorem tE_rf (x : Int) : tE 2 x = va_rf (rfO x) := by
  unfold rfO
  by_cases h : x = 0
  · subst h; rfl
  · rw [if_neg h, tE_ref h]; rfl
theorem rfO_eq {x y : Int} (hx : 0 ≤ x) (hy : 0 ≤ y) : rfO x = rfO y ↔ x = y := by
  unfold rfO
  constructor
  · intro h
    by_cases h1 : x = 0 <;> by_cases h2 : y = 0
    · omega
    · rw [if_pos h1, if_neg h2] at h; cases h
    · rw [if_neg h1, if_pos h2] at h; cases h
    · rw [if_neg h1, if_neg h2] at h
      have := Option.some.inj h
      omega
  · intro h; rw [h]
def g_00 (x y : Int) : Bool := decide (0 ≤ x ∧ 0 ≤ y)
theorem g00_ok (x y : Int) (h : 0 ≤ x ∧ 0 ≤ y) : g_00 x y = true := decide_eq_true h
def ma_eq : tX → tX → tX := mx_if2 g_00 c_eq (fun x y => 0 ≤ x ∧ 0 ≤ y) (fun x y => x = y) g00_ok (fun x y => decide_eq_true_iff)
def ma_ne : tX → tX → tX := mx_if2 g_00 c_ne (fun x y => 0 ≤ x ∧ 0 ≤ y) (fun x y => ¬ x = y) g00_ok (fun x y => decide_eq_true_iff)
def o_gets (j : Nat) (K : tB) : tB := fun L S h => K L (h.1.1 0 j :: S) h
def mx_gets (j : Nat) (K : tX) : tX := ⟨(o_gets j K.1.1, fun L S h J R => K.1.2 L (h.1.1 0 j :: S) h J R), fun L S h J R H => K.2 _ _ _ _ _ H⟩
def f_iushr (x y : Int) : Int := ((Int32.ofInt x).toUInt32 >>> ((Int32.ofInt y).toUInt32 &&& Int32.toUInt32 31)).toInt32.toInt
section TX1
variable {E : tM} {pc : Nat} {lt : List (Nat × Nat)} {ts : List Nat} {K KT KF : tX}
theorem ms_dupx1 {a b : Nat} (ha : a ≠ 1) (hb : b ≠ 1) (hd : decode (tM.cc E) pc = .ok (.dup_x1, 1)) (hK : tSx E (pc + 1) lt (a :: b :: a :: ts) K) : tSx E pc lt (a :: b :: ts) (mx_dupx1 K) :=
  tSd.step (K := K.1.1) hK fun L S h r hB hS hL => by
    match S, hB, hS with
    | y :: x :: S', hB, hS =>
      refine ⟨L, _, hB, by simpa using hS, hL, fun p l e R s m args below meth c n0 u0 fin hC hW ls H locs h1 h2 h3 => ?_⟩
      rw [tSt_cons, tSt_cons]
      exact lv_dup_x1 hC.1 hC.2.1 hd (by rw [tE_cat, if_neg ha]) (by rw [tE_cat, if_neg hb]) (hW ls H locs h1 h2 h3)
theorem ms_iushr (hd : decode (tM.cc E) pc = .ok (.iushr, 1)) (hK : tSx E (pc + 1) lt (0 :: ts) K) : tSx E pc lt (0 :: 0 :: ts) (mx_bin f_iushr K) :=
  tSd.step (K := K.1.1) hK fun L S h r hB hS hL => by
    obtain ⟨x, y, S', rfl, hB⟩ := o_bin_some hB
    refine ⟨L, _, hB, by simpa using hS, hL, fun p l e R s m args below meth c n0 u0 fin hC hW ls H locs h1 h2 h3 => ?_⟩
    exact lv_iushr hC.1 hC.2.1 hd (by unfold f_iushr; exact (Int32.ofInt_toInt _).symm) (hW ls H locs h1 h2 h3)
theorem ms_acmp_eq {off : Int} (tgt : Nat) (hd : decode (tM.cc E) pc = .ok (.if_acmp .eq off, 3)) (ht : (pc : Int) + off = (tgt : Int)) (hT : tSx E tgt lt ts KT) (hF : tSx E (pc + 3) lt ts KF) : tSx E pc lt (2 :: 2 :: ts) (ma_eq KT KF) :=
  tSd.step2 (KT := KT.1.1) (KF := KF.1.1) hT hF fun L S h r hB hS hL => by
    obtain ⟨x, y, S', rfl, hg, hB⟩ := o_if2_some hB
    obtain ⟨a1, a2⟩ := of_decide_eq_true hg
    have hi := rfO_eq a1 a2
    refine ⟨S', by simpa using hS, ?_⟩
    rcases hB with ⟨hf, hB⟩ | ⟨hf, hB⟩
    · refine Or.inl ⟨hB, fun p l e R s m args below meth c n0 u0 fin hC hW ls H locs h1 h2 h3 => ?_⟩
      rw [tSt_cons, tSt_cons, tE_rf y, tE_rf x]
      exact lv_acmp_eq hC.1 hC.2.1 hd ht (fun _ => hW ls H locs h1 h2 h3) (fun q => absurd (hi.mpr (of_decide_eq_true hf)) q)
    · refine Or.inr ⟨hB, fun p l e R s m args below meth c n0 u0 fin hC hW ls H locs h1 h2 h3 => ?_⟩
      rw [tSt_cons, tSt_cons, tE_rf y, tE_rf x]
      exact lv_acmp_eq hC.1 hC.2.1 hd ht (fun q => absurd (hi.mp q) (of_decide_eq_false hf)) (fun _ => hW ls H locs h1 h2 h3)
theorem ms_acmp_ne {off : Int} (tgt : Nat) (hd : decode (tM.cc E) pc = .ok (.if_acmp .ne off, 3)) (ht : (pc : Int) + off = (tgt : Int)) (hT : tSx E tgt lt ts KT) (hF : tSx E (pc + 3) lt ts KF) : tSx E pc lt (2 :: 2 :: ts) (ma_ne KT KF) :=
  tSd.step2 (KT := KT.1.1) (KF := KF.1.1) hT hF fun L S h r hB hS hL => by
    obtain ⟨x, y, S', rfl, hg, hB⟩ := o_if2_some hB
    obtain ⟨a1, a2⟩ := of_decide_eq_true hg
    have hi := not_congr (rfO_eq a1 a2)
    refine ⟨S', by simpa using hS, ?_⟩
    rcases hB with ⟨hf, hB⟩ | ⟨hf, hB⟩
    · refine Or.inl ⟨hB, fun p l e R s m args below meth c n0 u0 fin hC hW ls H locs h1 h2 h3 => ?_⟩
      rw [tSt_cons, tSt_cons, tE_rf y, tE_rf x]
      exact lv_acmp_ne hC.1 hC.2.1 hd ht (fun _ => hW ls H locs h1 h2 h3) (fun q => absurd q (hi.mpr (of_decide_eq_true hf)))
    · refine Or.inr ⟨hB, fun p l e R s m args below meth c n0 u0 fin hC hW ls H locs h1 h2 h3 => ?_⟩
      rw [tSt_cons, tSt_cons, tE_rf y, tE_rf x]
      exact lv_acmp_ne hC.1 hC.2.1 hd ht (fun q => absurd (hi.mp q) (of_decide_eq_false hf)) (fun _ => hW ls H locs h1 h2 h3)
/-- statics -/
theorem ms_gets (j : Nat) {C n d ref : String} {idx : Nat} (hz : (C, n, d, j) ∈ zSt) (hq : Cond.fieldLink (tM.own E) idx ref n d ∈ lw_all) (hs : ref = C ∨ Cond.sameField ref C n d ∈ lw_all) (hd : decode (tM.cc E) pc = .ok (.getstatic idx, 3)) (hK : tSx E (pc + 3) lt (2 :: ts) K) : tSx E pc lt ts (mx_gets j K) :=
  tSd.step (K := K.1.1) hK fun L S h r hB hS hL => ⟨L, _, hB, by simp [hS], hL, fun p l e R s m args below meth c n0 u0 fin hC hW ls H locs h1 h2 h3 => by
    have hw := hW ls H locs h1 h2 h3
    rw [tSt_cons, h2.2.2 j] at hw
    exact va_gets hC.1 hC.2.1 (hC.2.2.2.2.2.2.2.2.2.2.2.2.2.2.1.1 _ hz) h3 hC.2.2.2.1 (hC.2.2.2.2.1 _ hq) (t_same (hs.imp id fun z => hC.2.2.2.2.1 _ z)) hd hw⟩
theorem ms_getsC {ref : String} {idx : Nat} (hq : Cond.fieldLink (tM.own E) idx ref "COMPACT_STRINGS" "Z" ∈ lw_all) (hs : ref = "java/lang/String" ∨ Cond.sameField ref "java/lang/String" "COMPACT_STRINGS" "Z" ∈ lw_all) (hd : decode (tM.cc E) pc = .ok (.getstatic idx, 3)) (hK : tSx E (pc + 3) lt (0 :: ts) K) : tSx E pc lt ts (mx_push 1 K) :=
  tSd.step (K := K.1.1) hK fun L S h r hB hS hL => ⟨L, _, hB, by simp [hS], hL, fun p l e R s m args below meth c n0 u0 fin hC hW ls H locs h1 h2 h3 =>
    va_gets hC.1 hC.2.1 hC.2.2.2.2.2.2.2.2.2.2.2.2.2.2.1.2.1.1 h3 hC.2.2.2.1 (hC.2.2.2.2.1 _ hq) (t_same (hs.imp id fun z => hC.2.2.2.2.1 _ z)) hd (hW ls H locs h1 h2 h3)⟩
theorem ms_getsH {ref : String} {idx : Nat} (hq : Cond.fieldLink (tM.own E) idx ref "high" "I" ∈ lw_all) (hs : ref = "java/lang/Integer$IntegerCache" ∨ Cond.sameField ref "java/lang/Integer$IntegerCache" "high" "I" ∈ lw_all) (hd : decode (tM.cc E) pc = .ok (.getstatic idx, 3)) (hK : tSx E (pc + 3) lt (0 :: ts) K) : tSx E pc lt ts (mx_push 127 K) :=
  tSd.step (K := K.1.1) hK fun L S h r hB hS hL => ⟨L, _, hB, by simp [hS], hL, fun p l e R s m args below meth c n0 u0 fin hC hW ls H locs h1 h2 h3 =>
    va_gets hC.1 hC.2.1 hC.2.2.2.2.2.2.2.2.2.2.2.2.2.2.1.2.1.2.1 h3 hC.2.2.2.1 (hC.2.2.2.2.1 _ hq) (t_same (hs.imp id fun z => hC.2.2.2.2.1 _ z)) hd (hW ls H locs h1 h2 h3)⟩
theorem tE_gh {n : Nat} (h : n ≠ 0) : tE 2 ((n : Nat) : Int) = .ref (n - 1) := by
  rw [tE_ref (by omega), show ((n : Int) - 1).toNat = n - 1 by omega]
/-- String constants, and the class object of Object[] -/
theorem ms_ldcS (j : Nat) {tx : String} {idx : Nat} (hz : (tM.own E, idx, tx, j) ∈ zSr) (hd : decode (tM.cc E) pc = .ok (.ldc idx, 2)) (hK : tSx E (pc + 2) lt (2 :: ts) K) : tSx E pc lt ts (mx_gets j K) :=
  tSd.step (K := K.1.1) hK fun L S h r hB hS hL => ⟨L, _, hB, by simp [hS], hL, fun p l e R s m args below meth c n0 u0 fin hC hW ls H locs h1 h2 h3 => by
    have hw := hW ls H locs h1 h2 h3
    obtain ⟨g1, g2⟩ := hC.2.2.2.2.2.2.2.2.2.2.2.2.2.2.1.2.2.1 _ hz
    rw [tSt_cons, h2.2.2 j, tE_gh g1] at hw
    exact va_ldcS hC.1 hC.2.1 hC.2.2.2.1 g2 hd hw⟩
theorem ms_ldcM {idx : Nat} (hq : Cond.classLink (tM.own E) idx "[Ljava/lang/Object;" ∈ lw_all) (hd : decode (tM.cc E) pc = .ok (.ldc idx, 2)) (hK : tSx E (pc + 2) lt (2 :: ts) K) : tSx E pc lt ts (mx_gets 4 K) :=
  tSd.step (K := K.1.1) hK fun L S h r hB hS hL => ⟨L, _, hB, by simp [hS], hL, fun p l e R s m args below meth c n0 u0 fin hC hW ls H locs h1 h2 h3 => by
    have hw := hW ls H locs h1 h2 h3
    obtain ⟨g1, g2, g3⟩ := hC.2.2.2.2.2.2.2.2.2.2.2.2.2.2.1.2.2.2.1
    rw [tSt_cons, h2.2.2 4, tE_gh g1] at hw
    exact va_ldcM hC.1 hC.2.1 hC.2.2.2.1 (hC.2.2.2.2.1 _ hq) g2 hd hw⟩
end TX1
/-! fields and lengths of what may be old or new -/
def mx_getf2 (c c' k : Nat) (K : tX) : tX := ⟨(fun L S h => if decide (h.2.2.1 (S.getD 0 0) = c) = true then o_getf c k K.1.1 L S h else o_getf c' k K.1.1 L S h, fun L S h J R => match S with
  | p :: S' => (h.2.2.1 p = c ∨ h.2.2.1 p = c') ∧ K.1.2 L (h.1.1 p k :: S') h J R
  | _ => False), fun L S h J R H => match S, H with
  | p :: S', H => by
    by_cases hc : h.2.2.1 p = c
    · simp only [List.getD_cons_zero, hc, decide_true, if_true]
      exact pIf hc (K.2 _ _ _ _ _ H.2)
    · simp only [List.getD_cons_zero, hc, decide_false, Bool.false_eq_true, if_false]
      exact pIf (H.1.resolve_left hc) (K.2 _ _ _ _ _ H.2)⟩
def mx_ald2 (t t' : Nat) (K : tX) : tX := ⟨(fun L S h => if decide (h.2.2.1 (S.getD 1 0) = 1000 + t) = true then o_ald t K.1.1 L S h else o_ald t' K.1.1 L S h, fun L S h J R => match S with
  | i :: p :: S' => ((h.2.2.1 p = 1000 + t ∨ h.2.2.1 p = 1000 + t') ∧ 0 ≤ i ∧ i < h.2.1 p) ∧ K.1.2 L (h.1.2 p i :: S') h J R
  | _ => False), fun L S h J R H => match S, H with
  | i :: p :: S', H => by
    by_cases hc : h.2.2.1 p = 1000 + t
    · simp only [List.getD_cons_succ, List.getD_cons_zero, hc, decide_true, if_true]
      exact pIf ⟨hc, H.1.2⟩ (K.2 _ _ _ _ _ H.2)
    · simp only [List.getD_cons_succ, List.getD_cons_zero, hc, decide_false, Bool.false_eq_true, if_false]
      exact pIf ⟨H.1.1.resolve_left hc, H.1.2⟩ (K.2 _ _ _ _ _ H.2)⟩
def mx_alen2 (t t' : Nat) (K : tX) : tX := ⟨(fun L S h => if decide (h.2.2.1 (S.getD 0 0) = 1000 + t) = true then o_alen t K.1.1 L S h else o_alen t' K.1.1 L S h, fun L S h J R => match S with
  | p :: S' => (h.2.2.1 p = 1000 + t ∨ h.2.2.1 p = 1000 + t') ∧ K.1.2 L (h.2.1 p :: S') h J R
  | _ => False), fun L S h J R H => match S, H with
  | p :: S', H => by
    by_cases hc : h.2.2.1 p = 1000 + t
    · simp only [List.getD_cons_zero, hc, decide_true, if_true]
      exact pIf hc (K.2 _ _ _ _ _ H.2)
    · simp only [List.getD_cons_zero, hc, decide_false, Bool.false_eq_true, if_false]
      exact pIf (H.1.resolve_left hc) (K.2 _ _ _ _ _ H.2)⟩
section TX2
variable {E : tM} {pc : Nat} {lt : List (Nat × Nat)} {ts : List Nat} {K KT KF : tX}
theorem ms_getf2 (c c' k : Nat) {q q' : vw_C} {idx : Nat} {ref : String} (kd : Nat) (hd : decode (tM.cc E) pc = .ok (.getfield idx, 3)) (hc : xcl c = some q) (hc' : xcl c' = some q') (hc9 : c < 3000) (hc9' : c' < 3000) (hk : k < q.2.2) (hk' : k < q'.2.2) (hq : Cond.fieldLink (tM.own E) idx ref (q.2.1 k).2.1 (q.2.1 k).2.2.1 ∈ lw_all) (hq' : Cond.fieldLink (tM.own E) idx ref (q'.2.1 k).2.1 (q'.2.1 k).2.2.1 ∈ lw_all)
    (hs : ref = (q.2.1 k).1 ∨ Cond.sameField ref (q.2.1 k).1 (q.2.1 k).2.1 (q.2.1 k).2.2.1 ∈ lw_all) (hs' : ref = (q'.2.1 k).1 ∨ Cond.sameField ref (q'.2.1 k).1 (q'.2.1 k).2.1 (q'.2.1 k).2.2.1 ∈ lw_all) (hkd : kdF (xty c k) = kd) (hkd' : kdF (xty c' k) = kd) (hK : tSx E (pc + 3) lt (kd :: ts) K) : tSx E pc lt (2 :: ts) (mx_getf2 c c' k K) :=
  tSd.or (s_getf c k kd hd hc hc9 hk hq hs hkd hK) (s_getf c' k kd hd hc' hc9' hk' hq' hs' hkd' hK)
theorem s_baldO (hd : decode (tM.cc E) pc = .ok (.baload, 1)) {K : tB} (hK : tSd E (pc + 1) lt (0 :: ts) K) : tSd E pc lt (0 :: 2 :: ts) (o_ald 1003 K) :=
  hK.step fun L S h r hB hS hL => by
    obtain ⟨i, q, S', rfl, hp, i0, i1, hB⟩ := o_ald_some hB
    refine ⟨L, _, hB, by simpa using hS, hL, fun pr l e R s m args below meth cd n0 u0 fin hC hW ls H locs h1 h2 h3 => ?_⟩
    obtain ⟨a, rfl, ha, g1, g2, g3⟩ := h2.arrO (by decide) hp (show xar 1003 = some (.byte) from rfl)
    obtain ⟨j1, j2, j3⟩ := t_idx i0 i1 g2
    have hw := hW ls H locs h1 h2 h3
    rw [tSt_cons, tSt_cons, tE_ptr]
    refine W.bald hC.1 hC.2.1 g3 ((hC.2.2.2.2.2.1.2 1003 _ rfl).1 _ _) (fun q => by cases q) (by rw [arrV_size]; exact fun z => z.elim j2 j3) (v := tE 0 (h.1.2 ((a : Int) + 1) i)) ?_ rfl rfl hd hw
    rw [arrV_read _ _ (by omega), j1, show ((i.toNat : Nat) : Int) = i by omega]
    rfl
theorem s_ialdO (hd : decode (tM.cc E) pc = .ok (.iaload, 1)) {K : tB} (hK : tSd E (pc + 1) lt (0 :: ts) K) : tSd E pc lt (0 :: 2 :: ts) (o_ald 1000 K) :=
  hK.step fun L S h r hB hS hL => by
    obtain ⟨i, q, S', rfl, hp, i0, i1, hB⟩ := o_ald_some hB
    refine ⟨L, _, hB, by simpa using hS, hL, fun pr l e R s m args below meth cd n0 u0 fin hC hW ls H locs h1 h2 h3 => ?_⟩
    obtain ⟨a, rfl, ha, g1, g2, g3⟩ := h2.arrO (by decide) hp (show xar 1000 = some (.int) from rfl)
    obtain ⟨j1, j2, j3⟩ := t_idx i0 i1 g2
    have hw := hW ls H locs h1 h2 h3
    rw [tSt_cons, tSt_cons, tE_ptr]
    refine W.iald hC.1 hC.2.1 g3 ((hC.2.2.2.2.2.1.2 1000 _ rfl).1 _ _) (fun q => by cases q) (by rw [arrV_size]; exact fun z => z.elim j2 j3) (v := tE 0 (h.1.2 ((a : Int) + 1) i)) ?_ rfl rfl hd hw
    rw [arrV_read _ _ (by omega), j1, show ((i.toNat : Nat) : Int) = i by omega]
    rfl
theorem ms_ialdO (hd : decode (tM.cc E) pc = .ok (.iaload, 1)) (hK : tSx E (pc + 1) lt (0 :: ts) K) : tSx E pc lt (0 :: 2 :: ts) (mx_ald 1000 K) := s_ialdO hd hK
theorem ms_bald2 (hd : decode (tM.cc E) pc = .ok (.baload, 1)) (hK : tSx E (pc + 1) lt (0 :: ts) K) : tSx E pc lt (0 :: 2 :: ts) (mx_ald2 3 1003 K) := tSd.or (s_bald hd hK) (s_baldO hd hK)
theorem ms_alen2 (t t' : Nat) (ht9 : t < 2000) (ht9' : t' < 2000) {ty ty' : FieldType} (ht : xar t = some ty) (ht' : xar t' = some ty') (hd : decode (tM.cc E) pc = .ok (.arraylength, 1)) (hK : tSx E (pc + 1) lt (0 :: ts) K) : tSx E pc lt (2 :: ts) (mx_alen2 t t' K) := tSd.or (s_alen t ht9 ht hd hK) (s_alen t' ht9' ht' hd hK)
end TX2
