/-! T: new cells -/
def tNew (h : tH) (tag : Nat) (len n : Int) : tH := ((fun q j => if q = h.2.2.2.1 then 0 else h.1.1 q j, fun q j => if q = h.2.2.2.1 then 0 else h.1.2 q j), fun q => if q = h.2.2.2.1 then len else h.2.1 q, fun q => if q = h.2.2.2.1 then tag else h.2.2.1 q, h.2.2.2.1 + 1, h.2.2.2.2 + n)
def okD (t : FieldType) : Bool := match t with
  | .float => false
  | .double => false
  | _ => true
theorem okD_spec {t : FieldType} (h : okD t = true) : defaultValue t = tE (kdF t) 0 := by
  cases t <;> first | rfl | cases h
theorem tR.push {D : tD} {b0 : Nat} {h : tH} {H H' : Heap} {tag : Nat} {len n : Int} (hR : tR D b0 h H) (hb : b0 ≤ H.size) (hz : H'.size = H.size + 1) (ho : ∀ q : Nat, q < H.size → H'[q]? = H[q]?) (ha : tOK D (tNew h tag len n) H.size H') : tR D b0 (tNew h tag len n) H' := by
  have e0 := hR.1
  refine ⟨by show h.2.2.2.1 + 1 = _; rw [hz]; omega, fun p hp => ?_, fun j => by show (if (0 : Int) = h.2.2.2.1 then 0 else h.1.1 0 j) = _; rw [if_neg (by omega)]; exact hR.2.2 j⟩
  by_cases hpn : p = h.2.2.2.1
  · exact ⟨H.size, by omega, by omega, fun _ => hb, ha⟩
  · have hp2 : (tNew h tag len n).2.2.1 p = h.2.2.1 p := if_neg hpn
    rw [hp2] at hp
    obtain ⟨b, h1, h2, h3, h4⟩ := hR.2.1 p hp
    refine ⟨b, h1, by omega, fun q => h3 (by rw [← hp2]; exact q), h4.kept ?_ ?_ ?_ ?_ (ho b h2)⟩
    · funext j
      rw [← h1]
      exact if_neg hpn
    · funext j
      rw [← h1]
      exact if_neg hpn
    · rw [← h1]; exact if_neg hpn
    · rw [← h1]; exact if_neg hpn
theorem t_newArrOK {D : tD} {b0 : Nat} {h : tH} {H H' : Heap} {k : Nat} {n m : Int} {ty : FieldType} (hR : tR D b0 h H) (hc : k < 1000) (hy : xar k = some ty) (h0 : 0 ≤ n) (h1 : n < 2147483648) (he : H'[H.size]? = some (arrV (D.2.2 k) n.toNat (fun _ => tE (kdF ty) 0))) : tOK D (tNew h (1000 + k) n m) H.size H' := by
  have e0 := hR.1
  refine ⟨fun c' q' hc' hq' => ?_, fun k' ty' hk' hy' => ?_⟩
  · have e1 : (tNew h (1000 + k) n m).2.2.1 ((H.size : Int) + 1) = 1000 + k := if_pos (by omega)
    have e2 : c' = 1000 + k := hc'.symm.trans e1
    subst e2
    exact absurd hq' (by
      unfold xcl
      split <;> first | (exfalso; omega) | (intro z; cases z))
  · have e1 : (tNew h (1000 + k) n m).2.2.1 ((H.size : Int) + 1) = 1000 + k := if_pos (by omega)
    have e2 : k' = k := by omega
    subst e2
    have e3 : ty' = ty := Option.some.inj (hy'.symm.trans hy)
    subst e3
    have e4 : (tNew h (1000 + k') n m).2.1 ((H.size : Int) + 1) = n := if_pos (by omega)
    rw [e4, he]
    refine ⟨h0, h1, ?_⟩
    congr 2
    funext q
    have e5 : (tNew h (1000 + k') n m).1.2 ((H.size : Int) + 1) q = 0 := if_pos (by omega)
    rw [e5]
theorem t_newObjOK {D : tD} {b0 : Nat} {h : tH} {H H' : Heap} {c : Nat} {m : Int} {q : vw_C} (hR : tR D b0 h H) (hc9 : c < 1000) (hc : xcl c = some q) (he : t_OB H.size (D.1 c) q.2.2 (D.2.1 c) H' (fun k => tE (kdF (xty c k)) 0)) : tOK D (tNew h c 0 m) H.size H' := by
  have e0 := hR.1
  refine ⟨fun c' q' hc' hq' => ?_, fun k' ty' hk' hy' => ?_⟩
  · have e1 : (tNew h c 0 m).2.2.1 ((H.size : Int) + 1) = c := if_pos (by omega)
    have e2 : c' = c := hc'.symm.trans e1
    subst e2
    have e3 : q' = q := Option.some.inj (hq'.symm.trans hc)
    subst e3
    refine he.to fun k _ => ?_
    have e5 : (tNew h c' 0 m).1.1 ((H.size : Int) + 1) k = 0 := if_pos (by omega)
    rw [e5]
  · have e1 : (tNew h c 0 m).2.2.1 ((H.size : Int) + 1) = c := if_pos (by omega)
    omega
theorem va_S.push1 {b0 : Nat} {H0 H H1 : Heap} {locs : List Loc} (h : va_S (fun q => b0 ≤ q) H0 H locs) (z : H1.size = H.size + 1) (o : ∀ q : Nat, q < H.size → H1[q]? = H[q]?) : va_S (fun q => b0 ≤ q) H0 H1 locs :=
  ⟨by have := h.1; omega, fun q hq hA => by rw [o q (Nat.lt_of_lt_of_le hq h.1)]; exact h.2.1 q hq hA, h.2.2⟩
def o_new (c : Nat) (n : Int) (K : tB) : tB := fun L S h => K L (h.2.2.2.1 :: S) (tNew h c 0 n)
def o_newa (t : Nat) (K : tB) : tB := fun L S h => match S with
  | n :: S' => if 0 ≤ n ∧ n ≤ 67108864 then K L (h.2.2.2.1 :: S') (tNew h (1000 + t) n n) else none
  | _ => none
theorem o_newa_some {t : Nat} {K : tB} {L S : List Int} {h : tH} {r : tN} (hB : o_newa t K L S h = some r) : ∃ n S', S = n :: S' ∧ 0 ≤ n ∧ n ≤ 67108864 ∧ K L (h.2.2.2.1 :: S') (tNew h (1000 + t) n n) = some r := by
  match S, hB with
  | [], hB => cases hB
  | n :: S', hB =>
    unfold o_newa at hB
    simp only at hB
    split at hB
    · rename_i hq
      exact ⟨n, S', rfl, hq.1, hq.2, hB⟩
    · cases hB
section TNW
variable {E : tM} {pc : Nat} {lt : List (Nat × Nat)} {ts : List Nat} {K : tB}
theorem tE_next {D : tD} {b0 : Nat} {h : tH} {H : Heap} (hR : tR D b0 h H) : tE 2 h.2.2.2.1 = .ref H.size := by
  rw [hR.1, tE_ptr]
theorem s_new (c : Nat) {q : vw_C} {idx : Nat} (hd : decode (tM.cc E) pc = .ok (.new idx, 3)) (hc : xcl c = some q) (hc9 : c < 1000) (h1 : Cond.classLink (tM.own E) idx q.1 ∈ lw_all) (h2 : Cond.instantiable q.1 q.2.2 ∈ lw_all) (h3 : Cond.initialized q.1 ∈ lw_all) (hdf : (List.range q.2.2).all (fun k => okD (xty c k)) = true) (hK : tSd E (pc + 3) lt (2 :: ts) K) : tSd E pc lt ts (o_new c q.2.2 K) :=
  hK.stepG fun L S h r hB hS hL => by
    refine ⟨L, _, _, hB, by simp [hS], hL, by show h.2.2.2.1 ≤ h.2.2.2.1 + 1; omega, by show h.2.2.2.2 ≤ h.2.2.2.2 + _; omega, fun pr l e R s m args below meth cd n0 u0 fin hC a1 a2 a3 a4 a5 a6 hW ls H locs g1 g2 g3 => ?_⟩
    have hts := hC.2.2.2.2.1
    have hKn := hC.2.2.2.2.2.1.1 c q hc
    obtain ⟨hin, hnm, hty⟩ := xcl_ok c q hc
    have e3 : (tNew h c 0 q.2.2).2.2.2.1 = h.2.2.2.1 + 1 := rfl
    have e4 : (tNew h c 0 q.2.2).2.2.2.2 = h.2.2.2.2 + q.2.2 := rfl
    rw [e3] at a3
    rw [e4] at a4
    refine W.newcK hC.1 hC.2.1 hC.2.2.2.1 (hts _ h1) (hts _ h2) (hts _ h3) rfl hd (by omega) (by omega) hKn.2.1 rfl (fun H1 kC hkC f1 f2 f3 => ?_)
    have hw := hW ls H1 locs g1 (g2.push (Nat.le_trans hC.2.2.2.2.2.2.1 g3.1) f2 f3 (t_newObjOK g2 hc9 hc ((u_born (xty c) hts hin hKn hkC f1 hty).to fun k hk => okD_spec (List.all_eq_true.mp hdf k (List.mem_range.mpr hk))))) (va_S.push1 g3 f2 f3)
    rw [tSt_cons, tE_next g2, e3, e4] at hw
    exact W.cs (by omega) (by omega) hw
theorem s_newa (t : Nat) (ht9 : t < 1000) {at_ : ArrayType} (ht : xar t = some (newarray.typeOf at_)) (hok : okD (newarray.typeOf at_) = true) (hcb : componentBytes (newarray.typeOf at_) ≤ 8) (hnr : ∀ C, newarray.typeOf at_ ≠ .object C) (h1 : Cond.arrayClass (newarray.typeOf at_) ∈ lw_all) (hd : decode (tM.cc E) pc = .ok (.newarray at_, 2)) (hK : tSd E (pc + 2) lt (2 :: ts) K) : tSd E pc lt (0 :: ts) (o_newa t K) :=
  hK.stepG fun L S h r hB hS hL => by
    obtain ⟨n, S', rfl, i0, i1, hB⟩ := o_newa_some hB
    refine ⟨L, _, _, hB, by simpa using hS, hL, by show h.2.2.2.1 ≤ h.2.2.2.1 + 1; omega, by show h.2.2.2.2 ≤ h.2.2.2.2 + _; omega, fun pr l e R s m args below meth cd n0 u0 fin hC a1 a2 a3 a4 a5 a6 hW ls H locs g1 g2 g3 => ?_⟩
    have hts := hC.2.2.2.2.1
    obtain ⟨j1, j2, -⟩ := t_idx (n := n + 1) i0 (by omega) (by omega)
    have e3 : (tNew h (1000 + t) n n).2.2.2.1 = h.2.2.2.1 + 1 := rfl
    have e4 : (tNew h (1000 + t) n n).2.2.2.2 = h.2.2.2.2 + n := rfl
    rw [e3] at a3
    rw [e4] at a4
    rw [tSt_cons]
    refine W.newa hC.1 hC.2.1 (hts _ h1) rfl hd rfl j2 (by rw [j1]; exact Nat.le_trans (Nat.mul_le_mul (Nat.le_refl _) hcb) (by omega)) (by omega) (by rw [j1]; omega) (fun cA kA comp f1 f2 f3 => ?_)
    have hRA := (hC.2.2.2.2.2.1.2 t _ ht).2
    have hcA : cA = (tM.D E).2.2 t := by
      have h5 : s.vm.findClass ("[" ++ (newarray.typeOf at_).toString) = some ((tM.D E).2.2 t) := by
        unfold va_RA at hRA
        split at hRA
        · rename_i C hC2
          exact absurd hC2 (hnr C)
        · exact hRA
      exact Option.some.inj (f1.symm.trans h5)
    rw [hcA, j1, arrV_new, okD_spec hok]
    have hw := hW ls (H.push (arrV ((tM.D E).2.2 t) n.toNat (fun _ => tE (kdF (newarray.typeOf at_)) 0))) locs g1 (g2.push (Nat.le_trans hC.2.2.2.2.2.2.1 g3.1) (by simp) (fun q hq => by rw [Array.getElem?_push_lt hq, Array.getElem?_eq_getElem hq]) (t_newArrOK g2 ht9 ht i0 (by omega) (by simp))) (va_S.push1 g3 (by simp) (fun q hq => by rw [Array.getElem?_push_lt hq, Array.getElem?_eq_getElem hq]))
    rw [tSt_cons, tE_next g2, e3, e4] at hw
    exact W.cs (by omega) (by omega) hw
end TNW
